/-- what stands() does -/
def Stnd (σ t : AS) : Prop := mS [63, 66] [220, 221, 222, 223, 224, 226, 227, 230] σ t ∧ (∀ j, j < 3 → gI t 220 (3 + j) = gI σ 220 j) ∧ (∀ j, j < 36 → gL t 221 (36 + j) = gL σ 221 j) ∧ (∀ j, j < 60 → gI t 222 (60 + j) = gI σ 222 j) ∧ (∀ j, j < 18 → gI t 223 (18 + j) = gI σ 223 j) ∧ (∀ j, j < 12 → gI t 226 (12 + j) = gI σ 226 j) ∧ (∀ j, j < 12 → gI t 227 (12 + j) = gI σ 227 j)
section SD_
variable (G : CX) (g : GX) (l : Launch) (d : Nat) (σ : AS)
set_option maxRecDepth 20000 in
set_option maxHeartbeats 8000000 in
theorem c_stands (nc ns nw b : Nat) (sh : Nat → Nat) (wa wb : Nat → Nat) (hc : gI σ 200 35 = nI nc) (hc9 : nc ≤ 1600) (hb : gI σ 200 32 = nI b) (h1 : gI σ 220 1 = nI ns) (hs9 : ns ≤ 12) (h2 : gI σ 220 2 = nI nw) (hw9 : nw ≤ 6) (hsh : ∀ s, s < ns → gI σ 222 (5 * s + 4) = nI (sh s)) (hwa : ∀ w, w < nw → gI σ 223 (3 * w + 1) = nI (wa w)) (hwb : ∀ w, w < nw → gI σ 223 (3 * w + 2) = nI (wb w)) :
    MC G g l (d+1) mX6_stands [tM] σ (fun r t => r = none ∧ Stnd σ t ∧ (∀ j, j < nc → gI t 224 (1600 + j) = gI σ 224 j) ∧ gI t 230 0 = nI b ∧ (∀ s, s < ns → gI t 230 (1 + s) = nI (sh s)) ∧ (∀ w, w < nw → gI t 230 (13 + 3 * w) = nI (wa w) ∧ gI t 230 (13 + 3 * w + 1) = nI (wb w) ∧ gI t 230 (13 + 3 * w + 2) = nI 0) ∧ gI t 200 63 = nI 0 ∧ gI t 200 66 = nI 0) := by
  refine MC1 tX6_stands [2, 19, 36, 53, 70, 97, 115, 133, 157] rfl okX6_stands rfl rfl rfl rfl (fun P hP => ?_)
  have L1 : ∀ (τ0 : AS), (∀ τ, mS [] [220] τ0 τ → (∀ j, j < 3 → gI τ 220 (3 + j) = gI τ0 220 j) → (∀ j, j < 3 → gI τ 220 j = gI τ0 220 j) → P 19 [some tM, some (iv (nI 0))] [] τ) → P 2 [some tM, some (iv (nI 0))] [] τ0 := by
    intro τ0 cont
    have key : ∀ (m k : Nat) (τ : AS), k + m = 3 → mS [] [220] τ0 τ → (∀ j, j < k → gI τ 220 (3 + j) = gI τ0 220 j) → (∀ j, j < 3 → gI τ 220 j = gI τ0 220 j) → P 2 [some tM, some (iv (nI k))] [] τ := by
      intro m
      induction m with
      | zero =>
        intro k τ hk hS f0 e0
        refine hP _ _ _ _ (And.intro (fun _ => ?_) (fun q => absurd (show nI 3 ≤ nI k from nI_le (by omega) (by omega)) q))
        have hkn : k = 3 := by omega
        subst hkn
        exact cont τ hS f0 e0
      | succ m ih =>
        intro k τ hk hS f0 e0
        refine hP _ _ _ _ (And.intro (fun q => absurd q (show ¬ nI 3 ≤ nI k from nI_ge (by omega) (by omega))) (fun _ => ?_))
        have ix : nI 3 + nI k = nI (3 + k) := nI_add _ _
        refine And.intro (show vp_in (nI k) 6 from vinN (by omega) (by decide)) (And.intro (show vp_in (nI 3 + nI k) 6 from by rw [ix]; exact vinN (by omega) (by decide)) ?_)
        show P 2 [some tM, some (iv (nI k + nI 1))] [] (sI τ 220 (nI 3 + nI k).toNatClampNeg (gI τ 220 (nI k).toNatClampNeg))
        rw [nI_add, ix, clN (by omega), clN (by omega)]
        refine ih (k+1) _ (by omega) (hS.a rfl) ?_ ?_
        · intro j hj
          rw [gI_sI]
          by_cases hjk : j = k
          · rw [if_pos ⟨rfl, by omega⟩, hjk]; exact e0 k (by omega)
          · rw [if_neg (by omega)]; exact f0 j (by omega)
        · intro j hj
          rw [gI_sI, if_neg (by omega)]; exact e0 j hj
    exact key 3 0 τ0 (by omega) mS.rf (fun j hj => absurd hj (Nat.not_lt_zero j)) (fun _ _ => rfl)
  have L2 : ∀ (τ0 : AS), (∀ τ, mS [] [221] τ0 τ → (∀ j, j < 36 → gL τ 221 (36 + j) = gL τ0 221 j) → (∀ j, j < 36 → gL τ 221 j = gL τ0 221 j) → P 36 [some tM, some (iv (nI 0))] [] τ) → P 19 [some tM, some (iv (nI 0))] [] τ0 := by
    intro τ0 cont
    have key : ∀ (m k : Nat) (τ : AS), k + m = 36 → mS [] [221] τ0 τ → (∀ j, j < k → gL τ 221 (36 + j) = gL τ0 221 j) → (∀ j, j < 36 → gL τ 221 j = gL τ0 221 j) → P 19 [some tM, some (iv (nI k))] [] τ := by
      intro m
      induction m with
      | zero =>
        intro k τ hk hS f0 e0
        refine hP _ _ _ _ (And.intro (fun _ => ?_) (fun q => absurd (show nI 36 ≤ nI k from nI_le (by omega) (by omega)) q))
        have hkn : k = 36 := by omega
        subst hkn
        exact cont τ hS f0 e0
      | succ m ih =>
        intro k τ hk hS f0 e0
        refine hP _ _ _ _ (And.intro (fun q => absurd q (show ¬ nI 36 ≤ nI k from nI_ge (by omega) (by omega))) (fun _ => ?_))
        have ix : nI 36 + nI k = nI (36 + k) := nI_add _ _
        refine And.intro (show vp_in (nI k) 72 from vinN (by omega) (by decide)) (And.intro (show vp_in (nI 36 + nI k) 72 from by rw [ix]; exact vinN (by omega) (by decide)) ?_)
        show P 19 [some tM, some (iv (nI k + nI 1))] [] (sL τ 221 (nI 36 + nI k).toNatClampNeg (gL τ 221 (nI k).toNatClampNeg))
        rw [nI_add, ix, clN (by omega), clN (by omega)]
        refine ih (k+1) _ (by omega) (hS.al rfl) ?_ ?_
        · intro j hj
          rw [gL_sL]
          by_cases hjk : j = k
          · rw [if_pos ⟨rfl, by omega⟩, hjk]; exact e0 k (by omega)
          · rw [if_neg (by omega)]; exact f0 j (by omega)
        · intro j hj
          rw [gL_sL, if_neg (by omega)]; exact e0 j hj
    exact key 36 0 τ0 (by omega) mS.rf (fun j hj => absurd hj (Nat.not_lt_zero j)) (fun _ _ => rfl)
  have L3 : ∀ (τ0 : AS), (∀ τ, mS [] [222] τ0 τ → (∀ j, j < 60 → gI τ 222 (60 + j) = gI τ0 222 j) → (∀ j, j < 60 → gI τ 222 j = gI τ0 222 j) → P 53 [some tM, some (iv (nI 0))] [] τ) → P 36 [some tM, some (iv (nI 0))] [] τ0 := by
    intro τ0 cont
    have key : ∀ (m k : Nat) (τ : AS), k + m = 60 → mS [] [222] τ0 τ → (∀ j, j < k → gI τ 222 (60 + j) = gI τ0 222 j) → (∀ j, j < 60 → gI τ 222 j = gI τ0 222 j) → P 36 [some tM, some (iv (nI k))] [] τ := by
      intro m
      induction m with
      | zero =>
        intro k τ hk hS f0 e0
        refine hP _ _ _ _ (And.intro (fun _ => ?_) (fun q => absurd (show nI 60 ≤ nI k from nI_le (by omega) (by omega)) q))
        have hkn : k = 60 := by omega
        subst hkn
        exact cont τ hS f0 e0
      | succ m ih =>
        intro k τ hk hS f0 e0
        refine hP _ _ _ _ (And.intro (fun q => absurd q (show ¬ nI 60 ≤ nI k from nI_ge (by omega) (by omega))) (fun _ => ?_))
        have ix : nI 60 + nI k = nI (60 + k) := nI_add _ _
        refine And.intro (show vp_in (nI k) 120 from vinN (by omega) (by decide)) (And.intro (show vp_in (nI 60 + nI k) 120 from by rw [ix]; exact vinN (by omega) (by decide)) ?_)
        show P 36 [some tM, some (iv (nI k + nI 1))] [] (sI τ 222 (nI 60 + nI k).toNatClampNeg (gI τ 222 (nI k).toNatClampNeg))
        rw [nI_add, ix, clN (by omega), clN (by omega)]
        refine ih (k+1) _ (by omega) (hS.a rfl) ?_ ?_
        · intro j hj
          rw [gI_sI]
          by_cases hjk : j = k
          · rw [if_pos ⟨rfl, by omega⟩, hjk]; exact e0 k (by omega)
          · rw [if_neg (by omega)]; exact f0 j (by omega)
        · intro j hj
          rw [gI_sI, if_neg (by omega)]; exact e0 j hj
    exact key 60 0 τ0 (by omega) mS.rf (fun j hj => absurd hj (Nat.not_lt_zero j)) (fun _ _ => rfl)
  have L4 : ∀ (τ0 : AS), (∀ τ, mS [] [223] τ0 τ → (∀ j, j < 18 → gI τ 223 (18 + j) = gI τ0 223 j) → (∀ j, j < 18 → gI τ 223 j = gI τ0 223 j) → P 70 [some tM, some (iv (nI 0))] [] τ) → P 53 [some tM, some (iv (nI 0))] [] τ0 := by
    intro τ0 cont
    have key : ∀ (m k : Nat) (τ : AS), k + m = 18 → mS [] [223] τ0 τ → (∀ j, j < k → gI τ 223 (18 + j) = gI τ0 223 j) → (∀ j, j < 18 → gI τ 223 j = gI τ0 223 j) → P 53 [some tM, some (iv (nI k))] [] τ := by
      intro m
      induction m with
      | zero =>
        intro k τ hk hS f0 e0
        refine hP _ _ _ _ (And.intro (fun _ => ?_) (fun q => absurd (show nI 18 ≤ nI k from nI_le (by omega) (by omega)) q))
        have hkn : k = 18 := by omega
        subst hkn
        exact cont τ hS f0 e0
      | succ m ih =>
        intro k τ hk hS f0 e0
        refine hP _ _ _ _ (And.intro (fun q => absurd q (show ¬ nI 18 ≤ nI k from nI_ge (by omega) (by omega))) (fun _ => ?_))
        have ix : nI 18 + nI k = nI (18 + k) := nI_add _ _
        refine And.intro (show vp_in (nI k) 36 from vinN (by omega) (by decide)) (And.intro (show vp_in (nI 18 + nI k) 36 from by rw [ix]; exact vinN (by omega) (by decide)) ?_)
        show P 53 [some tM, some (iv (nI k + nI 1))] [] (sI τ 223 (nI 18 + nI k).toNatClampNeg (gI τ 223 (nI k).toNatClampNeg))
        rw [nI_add, ix, clN (by omega), clN (by omega)]
        refine ih (k+1) _ (by omega) (hS.a rfl) ?_ ?_
        · intro j hj
          rw [gI_sI]
          by_cases hjk : j = k
          · rw [if_pos ⟨rfl, by omega⟩, hjk]; exact e0 k (by omega)
          · rw [if_neg (by omega)]; exact f0 j (by omega)
        · intro j hj
          rw [gI_sI, if_neg (by omega)]; exact e0 j hj
    exact key 18 0 τ0 (by omega) mS.rf (fun j hj => absurd hj (Nat.not_lt_zero j)) (fun _ _ => rfl)
  have L5 : ∀ (τ0 : AS), (∀ τ, mS [] [226, 227] τ0 τ → (∀ j, j < 12 → gI τ 226 (12 + j) = gI τ0 226 j) → (∀ j, j < 12 → gI τ 226 j = gI τ0 226 j) → (∀ j, j < 12 → gI τ 227 (12 + j) = gI τ0 227 j) → (∀ j, j < 12 → gI τ 227 j = gI τ0 227 j) → P 97 [some tM, some (iv (nI 0))] [] τ) → P 70 [some tM, some (iv (nI 0))] [] τ0 := by
    intro τ0 cont
    have key : ∀ (m k : Nat) (τ : AS), k + m = 12 → mS [] [226, 227] τ0 τ → (∀ j, j < k → gI τ 226 (12 + j) = gI τ0 226 j) → (∀ j, j < 12 → gI τ 226 j = gI τ0 226 j) → (∀ j, j < k → gI τ 227 (12 + j) = gI τ0 227 j) → (∀ j, j < 12 → gI τ 227 j = gI τ0 227 j) → P 70 [some tM, some (iv (nI k))] [] τ := by
      intro m
      induction m with
      | zero =>
        intro k τ hk hS f0 e0 f1 e1
        refine hP _ _ _ _ (And.intro (fun _ => ?_) (fun q => absurd (show nI 12 ≤ nI k from nI_le (by omega) (by omega)) q))
        have hkn : k = 12 := by omega
        subst hkn
        exact cont τ hS f0 e0 f1 e1
      | succ m ih =>
        intro k τ hk hS f0 e0 f1 e1
        refine hP _ _ _ _ (And.intro (fun q => absurd q (show ¬ nI 12 ≤ nI k from nI_ge (by omega) (by omega))) (fun _ => ?_))
        have ix : nI 12 + nI k = nI (12 + k) := nI_add _ _
        refine And.intro (show vp_in (nI k) 24 from vinN (by omega) (by decide)) (And.intro (show vp_in (nI 12 + nI k) 24 from by rw [ix]; exact vinN (by omega) (by decide)) ?_)
        refine And.intro (show vp_in (nI k) 24 from vinN (by omega) (by decide)) (And.intro (show vp_in (nI 12 + nI k) 24 from by rw [ix]; exact vinN (by omega) (by decide)) ?_)
        show P 70 [some tM, some (iv (nI k + nI 1))] [] (sI (sI τ 226 (nI 12 + nI k).toNatClampNeg (gI τ 226 (nI k).toNatClampNeg)) 227 (nI 12 + nI k).toNatClampNeg (gI (sI τ 226 (nI 12 + nI k).toNatClampNeg (gI τ 226 (nI k).toNatClampNeg)) 227 (nI k).toNatClampNeg))
        rw [nI_add, ix, clN (by omega), clN (by omega)]
        refine ih (k+1) _ (by omega) ((hS.a rfl).a rfl) ?_ ?_ ?_ ?_
        · intro j hj
          rw [gI_sI, if_neg (by omega), gI_sI]
          by_cases hjk : j = k
          · rw [if_pos ⟨rfl, by omega⟩, hjk]; exact e0 k (by omega)
          · rw [if_neg (by omega)]; exact f0 j (by omega)
        · intro j hj
          rw [gI_sI, if_neg (by omega), gI_sI, if_neg (by omega)]; exact e0 j hj
        · intro j hj
          rw [gI_sI]
          by_cases hjk : j = k
          · rw [if_pos ⟨rfl, by omega⟩, hjk, gI_sI, if_neg (by omega)]; exact e1 k (by omega)
          · rw [if_neg (by omega), gI_sI, if_neg (by omega)]; exact f1 j (by omega)
        · intro j hj
          rw [gI_sI, if_neg (by omega), gI_sI, if_neg (by omega)]; exact e1 j hj
    exact key 12 0 τ0 (by omega) mS.rf (fun j hj => absurd hj (Nat.not_lt_zero j)) (fun _ _ => rfl) (fun j hj => absurd hj (Nat.not_lt_zero j)) (fun _ _ => rfl)
  have L6 : ∀ (τ0 : AS) (_ : gI τ0 200 35 = nI nc), (∀ τ, mS [] [224] τ0 τ → (∀ j, j < nc → gI τ 224 (1600 + j) = gI τ0 224 j) → (∀ j, j < 1600 → gI τ 224 j = gI τ0 224 j) → P 115 [some tM, some (iv (nI 0))] [] τ) → P 97 [some tM, some (iv (nI 0))] [] τ0 := by
    intro τ0 hc0 cont
    have key : ∀ (m k : Nat) (τ : AS), k + m = nc → mS [] [224] τ0 τ → (∀ j, j < k → gI τ 224 (1600 + j) = gI τ0 224 j) → (∀ j, j < 1600 → gI τ 224 j = gI τ0 224 j) → P 97 [some tM, some (iv (nI k))] [] τ := by
      intro m
      induction m with
      | zero =>
        intro k τ hk hS f0 e0
        have hcτ : gI τ 200 35 = nI nc := by rw [hS.i 200 35 rfl rfl]; exact hc0
        refine hP _ _ _ _ (And.intro (fun _ => ?_) (fun q => absurd (show gI τ 200 35 ≤ nI k from by rw [hcτ]; exact nI_le (by omega) (by omega)) q))
        have hkn : k = nc := by omega
        rw [hkn] at f0
        exact cont τ hS f0 e0
      | succ m ih =>
        intro k τ hk hS f0 e0
        have hcτ : gI τ 200 35 = nI nc := by rw [hS.i 200 35 rfl rfl]; exact hc0
        refine hP _ _ _ _ (And.intro (fun q => absurd q (show ¬ gI τ 200 35 ≤ nI k from by rw [hcτ]; exact nI_ge (by omega) (by omega))) (fun _ => ?_))
        have ix : nI 1600 + nI k = nI (1600 + k) := nI_add _ _
        refine And.intro (show vp_in (nI k) 3200 from vinN (by omega) (by decide)) (And.intro (show vp_in (nI 1600 + nI k) 3200 from by rw [ix]; exact vinN (by omega) (by decide)) ?_)
        show P 97 [some tM, some (iv (nI k + nI 1))] [] (sI τ 224 (nI 1600 + nI k).toNatClampNeg (gI τ 224 (nI k).toNatClampNeg))
        rw [nI_add, ix, clN (by omega), clN (by omega)]
        refine ih (k+1) _ (by omega) (hS.a rfl) ?_ ?_
        · intro j hj
          rw [gI_sI]
          by_cases hjk : j = k
          · rw [if_pos ⟨rfl, by omega⟩, hjk]; exact e0 k (by omega)
          · rw [if_neg (by omega)]; exact f0 j (by omega)
        · intro j hj
          rw [gI_sI, if_neg (by omega)]; exact e0 j hj
    exact key nc 0 τ0 (by omega) mS.rf (fun j hj => absurd hj (Nat.not_lt_zero j)) (fun _ _ => rfl)
  have L7 : ∀ (τ0 : AS), (∀ τ, mS [] [230] τ0 τ → gI τ 230 0 = gI τ0 200 32 → (∀ j, 0 < j → j < 31 → gI τ 230 j = nI 0) → P 133 [some tM, some (iv (nI 0))] [] τ) → P 115 [some tM, some (iv (nI 0))] [] τ0 := by
    intro τ0 cont
    have key : ∀ (m k : Nat) (τ : AS), k + m = 31 → mS [] [230] τ0 τ → (∀ j, j < k → gI τ 230 j = nI 0) → P 115 [some tM, some (iv (nI k))] [] τ := by
      intro m
      induction m with
      | zero =>
        intro k τ hk hS f0
        refine hP _ _ _ _ (And.intro (fun _ => And.intro (vin 0 31 rfl rfl) ?_) (fun q => absurd (show nI 31 ≤ nI k from nI_le (by omega) (by omega)) q))
        show P 133 [some tM, some (iv (nI 0))] [] (sI τ 230 0 (gI τ 200 32))
        refine cont _ (hS.a rfl) ?_ (fun j h1 h2 => ?_)
        · rw [gI_sI, if_pos ⟨rfl, rfl⟩, hS.i 200 32 rfl rfl]
        · rw [gI_sI, if_neg (by omega)]; exact f0 j (by omega)
      | succ m ih =>
        intro k τ hk hS f0
        refine hP _ _ _ _ (And.intro (fun q => absurd q (show ¬ nI 31 ≤ nI k from nI_ge (by omega) (by omega))) (fun _ => And.intro (show vp_in (nI k) 31 from vinN (by omega) (by decide)) ?_))
        show P 115 [some tM, some (iv (nI k + nI 1))] [] (sI τ 230 (nI k).toNatClampNeg (nI 0))
        rw [nI_add, clN (by omega)]
        refine ih (k+1) _ (by omega) (hS.a rfl) (fun j hj => ?_)
        rw [gI_sI]
        by_cases hjk : j = k
        · rw [if_pos ⟨rfl, hjk⟩]
        · rw [if_neg (fun q => hjk q.2)]; exact f0 j (by omega)
    exact key 31 0 τ0 (by omega) mS.rf (fun j hj => absurd hj (Nat.not_lt_zero j))
  have L8 : ∀ (τ0 : AS), gI τ0 220 1 = nI ns → (∀ s, s < ns → gI τ0 222 (5 * s + 4) = nI (sh s)) → (∀ τ, mS [] [230] τ0 τ → (∀ s, s < ns → gI τ 230 (1 + s) = nI (sh s)) → (∀ j, j < 1 ∨ ns < j → gI τ 230 j = gI τ0 230 j) → P 157 [some tM, some (iv (nI 0))] [] τ) → P 133 [some tM, some (iv (nI 0))] [] τ0 := by
    intro τ0 hn0 hs0 cont
    have key : ∀ (m k : Nat) (τ : AS), k + m = ns → mS [] [230] τ0 τ → (∀ s, s < k → gI τ 230 (1 + s) = nI (sh s)) → (∀ j, j < 1 ∨ k < j → gI τ 230 j = gI τ0 230 j) → P 133 [some tM, some (iv (nI k))] [] τ := by
      intro m
      induction m with
      | zero =>
        intro k τ hk hS f0 e0
        have hn : gI τ 220 1 = nI ns := by rw [hS.ia 220 rfl rfl]; exact hn0
        refine hP _ _ _ _ (And.intro (vin 1 6 rfl rfl) (And.intro (fun _ => ?_) (fun q => absurd (show gI τ 220 1 ≤ nI k from by rw [hn]; exact nI_le (by omega) (by omega)) q)))
        have hkn : k = ns := by omega
        rw [hkn] at f0 e0
        exact cont τ hS f0 e0
      | succ m ih =>
        intro k τ hk hS f0 e0
        have hn : gI τ 220 1 = nI ns := by rw [hS.ia 220 rfl rfl]; exact hn0
        have i1 : nI 5 * nI k + nI 4 = nI (5 * k + 4) := nI_ix _ _ _
        have i2 : nI 1 + nI k = nI (1 + k) := nI_add _ _
        refine hP _ _ _ _ (And.intro (vin 1 6 rfl rfl) (And.intro (fun q => absurd q (show ¬ gI τ 220 1 ≤ nI k from by rw [hn]; exact nI_ge (by omega) (by omega))) (fun _ => And.intro (show vp_in (nI 5 * nI k + nI 4) 120 from by rw [i1]; exact vinN (by omega) (by decide)) (And.intro (show vp_in (nI 1 + nI k) 31 from by rw [i2]; exact vinN (by omega) (by decide)) ?_))))
        show P 133 [some tM, some (iv (nI k + nI 1))] [] (sI τ 230 (nI 1 + nI k).toNatClampNeg (gI τ 222 (nI 5 * nI k + nI 4).toNatClampNeg))
        rw [nI_add, i1, i2, clN (by omega), clN (by omega)]
        refine ih (k+1) _ (by omega) (hS.a rfl) (fun s hs => ?_) (fun j hj => ?_)
        · rw [gI_sI]
          by_cases hjk : s = k
          · rw [if_pos ⟨rfl, by omega⟩, hjk, hS.ia 222 rfl rfl]; exact hs0 k (by omega)
          · rw [if_neg (by omega)]; exact f0 s (by omega)
        · rw [gI_sI, if_neg (by omega)]; exact e0 j (by omega)
    exact key ns 0 τ0 (by omega) mS.rf (fun j hj => absurd hj (Nat.not_lt_zero j)) (fun _ _ => rfl)
  have L9 : ∀ (τ0 : AS), gI τ0 220 2 = nI nw → (∀ w, w < nw → gI τ0 223 (3 * w + 1) = nI (wa w)) → (∀ w, w < nw → gI τ0 223 (3 * w + 2) = nI (wb w)) → (∀ j, 13 ≤ j → j < 31 → gI τ0 230 j = nI 0) → (∀ τ, mS [63, 66] [230] τ0 τ → (∀ w, w < nw → gI τ 230 (13 + 3 * w) = nI (wa w) ∧ gI τ 230 (13 + 3 * w + 1) = nI (wb w) ∧ gI τ 230 (13 + 3 * w + 2) = nI 0) → (∀ j, j < 13 → gI τ 230 j = gI τ0 230 j) → gI τ 200 63 = nI 0 → gI τ 200 66 = nI 0 → (none = (none : Option AV) ∧ Stnd σ τ ∧ (∀ j, j < nc → gI τ 224 (1600 + j) = gI σ 224 j) ∧ gI τ 230 0 = nI b ∧ (∀ s, s < ns → gI τ 230 (1 + s) = nI (sh s)) ∧ (∀ w, w < nw → gI τ 230 (13 + 3 * w) = nI (wa w) ∧ gI τ 230 (13 + 3 * w + 1) = nI (wb w) ∧ gI τ 230 (13 + 3 * w + 2) = nI 0) ∧ gI τ 200 63 = nI 0 ∧ gI τ 200 66 = nI 0)) → P 157 [some tM, some (iv (nI 0))] [] τ0 := by
    intro τ0 hn0 ha0 hb0 hz0 cont
    have key : ∀ (m k : Nat) (τ : AS), k + m = nw → mS [] [230] τ0 τ → (∀ w, w < k → gI τ 230 (13 + 3 * w) = nI (wa w) ∧ gI τ 230 (13 + 3 * w + 1) = nI (wb w) ∧ gI τ 230 (13 + 3 * w + 2) = nI 0) → (∀ j, j < 13 ∨ 13 + 3 * k ≤ j → gI τ 230 j = gI τ0 230 j) → P 157 [some tM, some (iv (nI k))] [] τ := by
      intro m
      induction m with
      | zero =>
        intro k τ hk hS f0 e0
        have hn : gI τ 220 2 = nI nw := by rw [hS.ia 220 rfl rfl]; exact hn0
        have hkn : k = nw := by omega
        rw [hkn] at f0 e0
        refine hP _ _ _ _ (And.intro (vin 2 6 rfl rfl) (And.intro (fun _ => ?_) (fun q => absurd (show gI τ 220 2 ≤ nI k from by rw [hn]; exact nI_le (by omega) (by omega)) q)))
        refine cont (sI (sI τ 200 63 (nI 0)) 200 66 (nI 0)) (((hS.mono rfl rfl).f rfl).f rfl) (fun w hw => ?_) (fun j hj => ?_) ?_ ?_
        · have := f0 w hw
          simp only [gI_sI]
          rw [if_neg (by omega), if_neg (by omega), if_neg (by omega), if_neg (by omega), if_neg (by omega), if_neg (by omega)]
          exact this
        · rw [gI_sI, if_neg (by omega), gI_sI, if_neg (by omega)]; exact e0 j (by omega)
        · rw [gI_sI, if_neg (by omega), gI_sI, if_pos ⟨rfl, rfl⟩]
        · rw [gI_sI, if_pos ⟨rfl, rfl⟩]
      | succ m ih =>
        intro k τ hk hS f0 e0
        have hn : gI τ 220 2 = nI nw := by rw [hS.ia 220 rfl rfl]; exact hn0
        have i1 : nI 3 * nI k + nI 1 = nI (3 * k + 1) := nI_ix _ _ _
        have i2 : nI 3 * nI k + nI 2 = nI (3 * k + 2) := nI_ix _ _ _
        have i3 : nI 13 + nI 3 * nI k = nI (13 + 3 * k) := by rw [pk_mul, nI_add]
        have i4 : nI 13 + nI 3 * nI k + nI 1 = nI (13 + 3 * k + 1) := by rw [i3, nI_add]
        refine hP _ _ _ _ (And.intro (vin 2 6 rfl rfl) (And.intro (fun q => absurd q (show ¬ gI τ 220 2 ≤ nI k from by rw [hn]; exact nI_ge (by omega) (by omega))) (fun _ => And.intro (show vp_in (nI 3 * nI k + nI 1) 36 from by rw [i1]; exact vinN (by omega) (by decide)) (And.intro (show vp_in (nI 13 + nI 3 * nI k) 31 from by rw [i3]; exact vinN (by omega) (by decide)) (And.intro (show vp_in (nI 3 * nI k + nI 2) 36 from by rw [i2]; exact vinN (by omega) (by decide)) (And.intro (show vp_in (nI 13 + nI 3 * nI k + nI 1) 31 from by rw [i4]; exact vinN (by omega) (by decide)) ?_))))))
        show P 157 [some tM, some (iv (nI k + nI 1))] [] (sI (sI τ 230 (nI 13 + nI 3 * nI k).toNatClampNeg (gI τ 223 (nI 3 * nI k + nI 1).toNatClampNeg)) 230 (nI 13 + nI 3 * nI k + nI 1).toNatClampNeg (gI (sI τ 230 (nI 13 + nI 3 * nI k).toNatClampNeg (gI τ 223 (nI 3 * nI k + nI 1).toNatClampNeg)) 223 (nI 3 * nI k + nI 2).toNatClampNeg))
        rw [nI_add, i4, i3, i1, i2, clN (by omega), clN (by omega), clN (by omega), clN (by omega)]
        refine ih (k+1) _ (by omega) ((hS.a rfl).a rfl) (fun w hw => ?_) (fun j hj => ?_)
        · by_cases hjk : w = k
          · subst hjk
            refine ⟨?_, ?_, ?_⟩
            · rw [gI_sI, if_neg (by omega), gI_sI, if_pos ⟨rfl, rfl⟩, hS.ia 223 rfl rfl]; exact ha0 w (by omega)
            · rw [gI_sI, if_pos ⟨rfl, rfl⟩, gI_sI, if_neg (by omega), hS.ia 223 rfl rfl]; exact hb0 w (by omega)
            · rw [gI_sI, if_neg (by omega), gI_sI, if_neg (by omega), e0 _ (by omega)]; exact hz0 _ (by omega) (by omega)
          · have := f0 w (by omega)
            simp only [gI_sI]
            rw [if_neg (by omega), if_neg (by omega), if_neg (by omega), if_neg (by omega), if_neg (by omega), if_neg (by omega)]
            exact this
        · rw [gI_sI, if_neg (by omega), gI_sI, if_neg (by omega)]; exact e0 j (by omega)
    exact key nw 0 τ0 (by omega) mS.rf (fun j hj => absurd hj (Nat.not_lt_zero j)) (fun _ _ => rfl)
  refine hP _ _ _ _ ?_
  refine L1 σ (fun τ1 S1 f1 e1 => ?_)
  refine L2 τ1 (fun τ2 S2 f2 e2 => ?_)
  refine L3 τ2 (fun τ3 S3 f3 e3 => ?_)
  refine L4 τ3 (fun τ4 S4 f4 e4 => ?_)
  refine L5 τ4 (fun τ5 S5 f5 e5 f5b e5b => ?_)
  have hc5 : gI τ5 200 35 = nI nc := by rw [S5.i 200 35 rfl rfl, S4.i 200 35 rfl rfl, S3.i 200 35 rfl rfl, S2.i 200 35 rfl rfl, S1.i 200 35 rfl rfl]; exact hc
  refine L6 τ5 hc5 (fun τ6 S6 f6 e6 => ?_)
  refine L7 τ6 (fun τ7 S7 f7 z7 => ?_)
  have c220 : ∀ j, j < 3 → gI τ7 220 j = gI σ 220 j := fun j hj => by rw [S7.ia 220 rfl rfl, S6.ia 220 rfl rfl, S5.ia 220 rfl rfl, S4.ia 220 rfl rfl, S3.ia 220 rfl rfl, S2.ia 220 rfl rfl]; exact e1 j hj
  have c222 : ∀ j, j < 60 → gI τ7 222 j = gI σ 222 j := fun j hj => by rw [S7.ia 222 rfl rfl, S6.ia 222 rfl rfl, S5.ia 222 rfl rfl, S4.ia 222 rfl rfl, e3 j hj, S2.ia 222 rfl rfl, S1.ia 222 rfl rfl]
  have c223 : ∀ j, j < 18 → gI τ7 223 j = gI σ 223 j := fun j hj => by rw [S7.ia 223 rfl rfl, S6.ia 223 rfl rfl, S5.ia 223 rfl rfl, e4 j hj, S3.ia 223 rfl rfl, S2.ia 223 rfl rfl, S1.ia 223 rfl rfl]
  refine L8 τ7 (by rw [c220 1 (by omega)]; exact h1) (fun s hs => by rw [c222 _ (by omega)]; exact hsh s hs) (fun τ8 S8 f8 z8 => ?_)
  refine L9 τ8 (by rw [S8.ia 220 rfl rfl, c220 2 (by omega)]; exact h2) (fun w hw => by rw [S8.ia 223 rfl rfl, c223 _ (by omega)]; exact hwa w hw) (fun w hw => by rw [S8.ia 223 rfl rfl, c223 _ (by omega)]; exact hwb w hw) (fun j h3 h4 => by rw [z8 j (by omega)]; exact z7 j (by omega) h4) (fun t S9 f9 z9 g63 g66 => ?_)
  have SA : mS [63, 66] [220, 221, 222, 223, 224, 226, 227, 230] σ t := ((((((((S1.mono rfl rfl).tr (S2.mono rfl rfl)).tr (S3.mono rfl rfl)).tr (S4.mono rfl rfl)).tr (S5.mono rfl rfl)).tr (S6.mono rfl rfl)).tr (S7.mono rfl rfl)).tr (S8.mono rfl rfl)).tr (S9.mono rfl rfl)
  refine ⟨rfl, ⟨SA, fun j hj => ?_, fun j hj => ?_, fun j hj => ?_, fun j hj => ?_, fun j hj => ?_, fun j hj => ?_⟩, fun j hj => ?_, ?_, fun s hs => ?_, f9, g63, g66⟩
  · rw [S9.ia 220 rfl rfl, S8.ia 220 rfl rfl, S7.ia 220 rfl rfl, S6.ia 220 rfl rfl, S5.ia 220 rfl rfl, S4.ia 220 rfl rfl, S3.ia 220 rfl rfl, S2.ia 220 rfl rfl]; exact f1 j hj
  · rw [S9.la 221 rfl rfl, S8.la 221 rfl rfl, S7.la 221 rfl rfl, S6.la 221 rfl rfl, S5.la 221 rfl rfl, S4.la 221 rfl rfl, S3.la 221 rfl rfl, f2 j hj, S1.la 221 rfl rfl]
  · rw [S9.ia 222 rfl rfl, S8.ia 222 rfl rfl, S7.ia 222 rfl rfl, S6.ia 222 rfl rfl, S5.ia 222 rfl rfl, S4.ia 222 rfl rfl, f3 j hj, S2.ia 222 rfl rfl, S1.ia 222 rfl rfl]
  · rw [S9.ia 223 rfl rfl, S8.ia 223 rfl rfl, S7.ia 223 rfl rfl, S6.ia 223 rfl rfl, S5.ia 223 rfl rfl, f4 j hj, S3.ia 223 rfl rfl, S2.ia 223 rfl rfl, S1.ia 223 rfl rfl]
  · rw [S9.ia 226 rfl rfl, S8.ia 226 rfl rfl, S7.ia 226 rfl rfl, S6.ia 226 rfl rfl, f5 j hj, S4.ia 226 rfl rfl, S3.ia 226 rfl rfl, S2.ia 226 rfl rfl, S1.ia 226 rfl rfl]
  · rw [S9.ia 227 rfl rfl, S8.ia 227 rfl rfl, S7.ia 227 rfl rfl, S6.ia 227 rfl rfl, f5b j hj, S4.ia 227 rfl rfl, S3.ia 227 rfl rfl, S2.ia 227 rfl rfl, S1.ia 227 rfl rfl]
  · rw [S9.ia 224 rfl rfl, S8.ia 224 rfl rfl, S7.ia 224 rfl rfl, f6 j hj, S5.ia 224 rfl rfl, S4.ia 224 rfl rfl, S3.ia 224 rfl rfl, S2.ia 224 rfl rfl, S1.ia 224 rfl rfl]
  · rw [z9 0 (by omega), z8 0 (by omega), f7, S6.i 200 32 rfl rfl, S5.i 200 32 rfl rfl, S4.i 200 32 rfl rfl, S3.i 200 32 rfl rfl, S2.i 200 32 rfl rfl, S1.i 200 32 rfl rfl]; exact hb
  · rw [z9 _ (by omega)]; exact f8 s hs
end SD_
