/-! numbers of the reader -/
section DR_
variable (G : CX) (g : GX) (l : Launch) (d : Nat) (σ : AS)
theorem numV_snoc2 (w : List Nat) (c : Nat) : numV (w ++ [c]) = 10 * numV w + c - 48 := by unfold numV; rw [List.foldl_append]; rfl
/-- after a number: at its end, from its begin -/
def nuS (σ : AS) (e a : Nat) : AS := sI (sI σ 9 3 (nI a)) 9 2 (nI e)
set_option maxHeartbeats 1000000 in
theorem x2_number2 (tp : List Nat) (h : XRr tp σ) (a0 : Nat) (ha : gI σ 9 2 = nI a0) (hal : a0 ≤ tp.length) (x y : Int32) (lo hi : Nat) (hx : x = nI lo) (hy : y = nI hi) (hlo : lo ≤ 10000) (hhi : hi ≤ 10000) :
    XC G g l (d+3) mX2_number_2 [tR, iv x, iv y] σ (fun r t => ∃ v e, numF tp lo hi (skp tp a0) = .ok (v, skp tp e) ∧ e ≤ tp.length ∧ skp tp a0 < e ∧ r = some (iv (nI v)) ∧ t = nuS σ e (skp tp a0)) (fun t => ∃ k p, numF tp lo hi (skp tp a0) = .error (k, p) ∧ ∃ s, xS [] [9] σ s ∧ t = wS s k p) := by
  subst hx; subst hy
  have hl := h.1.1
  have h25 := h.1.lt
  obtain ⟨a, hsk⟩ : ∃ a, skp tp a0 = a := ⟨_, rfl⟩
  have hale : a ≤ tp.length := by rw [← hsk]; exact endE_le isB hal
  rw [hsk]
  refine XC1 tX2_number_2 [2, 3, 8, 9, 11, 12, 16, 18, 21, 22, 24, 29, 35, 36, 37, 44, 48, 55, 59, 64, 65] rfl okX2_number_2 rfl rfl rfl rfl (fun P hP => hP _ _ _ _ ?_)
  refine mcall (x2_here G g l d σ tp h a0 ha hal) (fun r u0 h9 => ?_)
  rw [hsk] at h9
  obtain ⟨rfl, e0⟩ := h9
  have S0 : xS [] [9] σ u0 := by rw [e0]; exact xS.rf.a rfl
  have g0 : gI u0 9 2 = nI a := by rw [e0, gI_sI, if_pos ⟨rfl, rfl⟩]
  have X0_ : XRr tp u0 := by rw [e0]; exact h.at2 (by decide) _
  show P 2 [some tR, some (iv (nI lo)), some (iv (nI hi)), none] [iv (bA tp a)] u0
  refine hP _ _ _ _ ?_
  refine mcall (x_isD G g l (d+1) u0 (bA tp a)) (fun r s2 h9 => ?_)
  obtain ⟨rfl, e9⟩ := h9
  subst e9
  rw [bA_D h25]
  show P 3 [some tR, some (iv (nI lo)), some (iv (nI hi)), none] [iv (bI (isAt isD tp a))] s2
  cases hD : isAt isD tp a with
  | false =>
    refine hP _ _ _ _ (And.intro (fun q => absurd rfl q) (fun _ => ?_))
    show P 8 [some tR, some (iv (nI lo)), some (iv (nI hi)), none] [iv (gI s2 9 2), iv (nI 1), tR] s2
    refine hP _ _ _ _ ?_
    refine mcall (x2_wrong G g l (d+1) s2 _ _ 1 a rfl g0) (fun r s3 h9 => ?_)
    obtain ⟨rfl, e9⟩ := h9
    show P 9 [some tR, some (iv (nI lo)), some (iv (nI hi)), none] [rf 10] s3
    exact hP _ _ _ _ ⟨1, a, by unfold numF; rw [if_pos (Or.inl hD)], s2, S0, e9⟩
  | true =>
  refine hP _ _ _ _ (And.intro (fun _ => ?_) (fun q => absurd q (by decide)))
  show P 11 [some tR, some (iv (nI lo)), some (iv (nI hi)), none] [tR] s2
  refine hP _ _ _ _ ?_
  refine xcall (x2_parted G g l d s2 tp X0_ a g0 hale) (fun r s3 h9 => ?_) (fun s3 h9 => ?_)
  rotate_left
  · exact ⟨1, a, by unfold numF; rw [if_pos (Or.inr h9.1)], s2, S0, h9.2⟩
  obtain ⟨hpr, rfl, e9⟩ := h9
  subst e9
  show P 12 [some tR, some (iv (nI lo)), some (iv (nI hi)), none] [] s3
  refine hP _ _ _ _ ?_
  show P 16 [some tR, some (iv (nI lo)), some (iv (nI hi)), none] [] (sI s3 9 3 (gI s3 9 2))
  rw [g0]
  have eu : sI s3 9 3 (nI a) = sI (sI σ 9 3 (nI a)) 9 2 (nI a) := by
    rw [e0]
    unfold sI
    congr 1
    funext b j
    show (if b = 9 ∧ j = 3 then nI a else (if b = 9 ∧ j = 2 then nI a else σ.1 b j)) = (if b = 9 ∧ j = 2 then nI a else (if b = 9 ∧ j = 3 then nI a else σ.1 b j))
    split
    · split <;> rfl
    · rfl
  rw [eu]
  generalize hu1 : sI σ 9 3 (nI a) = u1
  have X1_ : XRr tp u1 := by rw [← hu1]; exact h.at2 (by decide) _
  have S1 : xS [] [9] σ u1 := by rw [← hu1]; exact xS.rf.a rfl
  have g13 : ∀ i, gI (sI u1 9 2 (nI i)) 9 3 = nI a := fun i => by rw [gI_sI, if_neg (by omega), ← hu1, gI_sI, if_pos ⟨rfl, rfl⟩]
  have g12 : ∀ i, gI (sI u1 9 2 (nI i)) 9 2 = nI i := fun i => by rw [gI_sI, if_pos ⟨rfl, rfl⟩]
  have hdl : dEn tp a ≤ tp.length := endE_le isD hale
  have hd1 : a + 1 ≤ dEn tp a := by
    have : dEn tp a = dEn tp (a+1) := endE_step hD
    rw [this]
    exact endE_ge isD tp (a+1)
  have nF0 : numF tp lo hi a = if 4 < dEn tp a - a then .error (1, a + 4) else if lo ≤ numV (sub_ tp a (dEn tp a)) ∧ numV (sub_ tp a (dEn tp a)) ≤ hi then .ok (numV (sub_ tp a (dEn tp a)), skp tp (dEn tp a)) else .error (2, a) := by
    unfold numF
    rw [if_neg (fun z => by rcases z with z | z; rw [hD] at z; cases z; rw [hpr] at z; cases z)]
  have fin : ∀ (v : Nat), v = numV (sub_ tp a (dEn tp a)) → v ≤ 9999 → dEn tp a - a ≤ 4 → P 55 [some tR, some (iv (nI lo)), some (iv (nI hi)), some (iv (nI v))] [] (sI u1 9 2 (nI (dEn tp a))) := by
    intro v hv hv9 h4
    rw [if_neg (by omega), ← hv] at nF0
    refine hP _ _ _ _ ?_
    refine mcall (x_btw G g l (d+1) (sI u1 9 2 (nI (dEn tp a))) (nI v) _ _ lo hi rfl rfl (by omega) (by omega)) (fun r s4 h9 => ?_)
    obtain ⟨rfl, e9⟩ := h9
    subst e9
    have eb : btw (nI v) lo hi = decide (lo ≤ v ∧ v ≤ hi) := by
      unfold btw
      apply decide_eq_decide.mpr
      rw [nI_toInt (by omega)]
      omega
    rw [eb]
    show P 59 [some tR, some (iv (nI lo)), some (iv (nI hi)), some (iv (nI v))] [iv (bI (decide (lo ≤ v ∧ v ≤ hi)))] (sI u1 9 2 (nI (dEn tp a)))
    by_cases hr : lo ≤ v ∧ v ≤ hi
    · rw [decide_eq_true hr]
      rw [if_pos hr] at nF0
      refine hP _ _ _ _ (And.intro (fun _ => ⟨v, dEn tp a, nF0, hdl, by omega, rfl, ?_⟩) (fun q => absurd q (by decide)))
      unfold nuS
      rw [hu1]
    · rw [decide_eq_false hr]
      rw [if_neg hr] at nF0
      refine hP _ _ _ _ (And.intro (fun q => absurd rfl q) (fun _ => ?_))
      show P 64 [some tR, some (iv (nI lo)), some (iv (nI hi)), some (iv (nI v))] [iv (gI (sI u1 9 2 (nI (dEn tp a))) 9 3), iv (nI 2), tR] (sI u1 9 2 (nI (dEn tp a)))
      refine hP _ _ _ _ ?_
      refine mcall (x2_wrong G g l (d+1) _ _ _ 2 a rfl (g13 _)) (fun r s5 h9 => ?_)
      obtain ⟨rfl, e9⟩ := h9
      show P 65 [some tR, some (iv (nI lo)), some (iv (nI hi)), some (iv (nI v))] [rf 10] s5
      exact hP _ _ _ _ ⟨2, a, nF0, _, S1.a rfl, e9⟩
  have loop : ∀ (m i v : Nat), i + m = dEn tp a → a ≤ i → i - a ≤ 4 → v = numV (sub_ tp a i) → v + 1 ≤ 10 ^ (i - a) → P 18 [some tR, some (iv (nI lo)), some (iv (nI hi)), some (iv (nI v))] [] (sI u1 9 2 (nI i)) := by
    intro m
    induction m with
    | zero =>
      intro i v hi hai hi4 hv hv9
      have hi : i = dEn tp a := by omega
      subst hi
      have hend : isAt isD tp (dEn tp a) = false := endE_end isD tp a
      have hv99 : v ≤ 9999 := by
        have : 10 ^ (dEn tp a - a) ≤ 10 ^ 4 := Nat.pow_le_pow_right (by decide) hi4
        omega
      refine hP _ _ _ _ ?_
      show P 21 [some tR, some (iv (nI lo)), some (iv (nI _)), some (iv (nI v))] [iv (gI (sI u1 9 2 (nI (dEn tp a))) 9 2), tR] (sI u1 9 2 (nI (dEn tp a)))
      refine hP _ _ _ _ ?_
      refine mcall (x2_byteAt G g l (d+1) _ tp (X1_.at2 (k := 2) (by decide) _) _ (dEn tp a) (g12 _) (by omega)) (fun r s4 h9 => ?_)
      obtain ⟨rfl, e9⟩ := h9
      subst e9
      show P 22 [some tR, some (iv (nI lo)), some (iv (nI _)), some (iv (nI v))] [iv (bA tp (dEn tp a))] (sI u1 9 2 (nI (dEn tp a)))
      refine hP _ _ _ _ ?_
      refine mcall (x_isD G g l (d+1) _ (bA tp (dEn tp a))) (fun r s5 h9 => ?_)
      obtain ⟨rfl, e9⟩ := h9
      subst e9
      rw [bA_D h25, hend]
      exact And.intro (fun _ => fin v hv hv99 hi4) (fun q => absurd rfl q)
    | succ m ih =>
      intro i v hi hai hi4 hv hv9
      have hat : isAt isD tp i = true := endE_in hai (show i < dEn tp a by omega)
      obtain ⟨x, hx⟩ : ∃ x, tp[i]? = some x := ⟨_, List.getElem?_eq_getElem (by have := isAt_lt hat; omega)⟩
      have hxl : 48 ≤ x ∧ x ≤ 57 := by
        unfold isAt at hat
        rw [hx] at hat
        exact of_decide_eq_true hat
      have hb : bA tp i = nI x := by unfold bA; rw [hx]
      have hv99 : v ≤ 9999 := by
        have : 10 ^ (i - a) ≤ 10 ^ 4 := Nat.pow_le_pow_right (by decide) hi4
        omega
      refine hP _ _ _ _ ?_
      show P 21 [some tR, some (iv (nI lo)), some (iv (nI _)), some (iv (nI v))] [iv (gI (sI u1 9 2 (nI i)) 9 2), tR] (sI u1 9 2 (nI i))
      refine hP _ _ _ _ ?_
      refine mcall (x2_byteAt G g l (d+1) _ tp (X1_.at2 (k := 2) (by decide) _) _ i (g12 _) (by omega)) (fun r s4 h9 => ?_)
      obtain ⟨rfl, e9⟩ := h9
      subst e9
      show P 22 [some tR, some (iv (nI lo)), some (iv (nI _)), some (iv (nI v))] [iv (bA tp i)] (sI u1 9 2 (nI i))
      refine hP _ _ _ _ ?_
      refine mcall (x_isD G g l (d+1) _ (bA tp i)) (fun r s5 h9 => ?_)
      obtain ⟨rfl, e9⟩ := h9
      subst e9
      rw [bA_D h25, hat]
      refine And.intro (fun q => absurd q (by decide)) (fun _ => ?_)
      show P 24 [some tR, some (iv (nI lo)), some (iv (nI _)), some (iv (nI v))] [] (sI u1 9 2 (nI i))
      refine hP _ _ _ _ ?_
      show P 29 [some tR, some (iv (nI lo)), some (iv (nI _)), some (iv (nI v))] [iv (gI (sI u1 9 2 (nI i)) 9 2 - gI (sI u1 9 2 (nI i)) 9 3)] (sI u1 9 2 (nI i))
      rw [g12, g13, nI_s1 _ _ hai]
      refine hP _ _ _ _ (And.intro (fun q => ?_) (fun q => ?_))
      · have q : ¬ nI (i - a) = nI 4 := q
        rw [nI_eq (by omega) (by omega)] at q
        show P 37 [some tR, some (iv (nI lo)), some (iv (nI _)), some (iv (nI v))] [] (sI u1 9 2 (nI i))
        refine hP _ _ _ _ ?_
        refine mcall (x2_byteAt G g l (d+1) _ tp (X1_.at2 (k := 2) (by decide) _) _ i (g12 _) (by omega)) (fun r s6 h9 => ?_)
        obtain ⟨rfl, e9⟩ := h9
        subst e9
        rw [hb]
        show P 44 [some tR, some (iv (nI lo)), some (iv (nI _)), some (iv (nI v))] [iv (nI x), iv (nI 10 * nI v)] (sI u1 9 2 (nI i))
        rw [ix1]
        refine hP _ _ _ _ ?_
        show P 48 [some tR, some (iv (nI lo)), some (iv (nI _)), some (iv (nI (10 * v) + nI x - nI 48))] [] (sI u1 9 2 (nI i))
        rw [nI_add, nI_s1 _ _ (by omega)]
        refine hP _ _ _ _ ?_
        show P 18 [some tR, some (iv (nI lo)), some (iv (nI _)), some (iv (nI (10 * v + x - 48)))] [] (sI (sI u1 9 2 (nI i)) 9 2 (gI (sI u1 9 2 (nI i)) 9 2 + nI 1))
        rw [sI_sI, g12, nI_add]
        have es : sub_ tp a (i+1) = sub_ tp a i ++ [x] := by
          unfold sub_
          rw [show i + 1 - a = (i - a) + 1 by omega, List.take_succ, List.getElem?_drop, show a + (i - a) = i by omega, hx]
          rfl
        refine ih (i+1) _ (by omega) (by omega) (by omega) (by rw [es, numV_snoc2, hv]) ?_
        rw [show i + 1 - a = (i - a) + 1 by omega, Nat.pow_succ]
        omega
      · have q : nI (i - a) = nI 4 := q
        rw [nI_eq (by omega) (by omega)] at q
        rw [if_pos (by omega)] at nF0
        show P 35 [some tR, some (iv (nI lo)), some (iv (nI _)), some (iv (nI v))] [iv (gI (sI u1 9 2 (nI i)) 9 2), iv (nI 1), tR] (sI u1 9 2 (nI i))
        refine hP _ _ _ _ ?_
        refine mcall (x2_wrong G g l (d+1) _ _ _ 1 (a + 4) rfl (by rw [g12, show i = a + 4 by omega])) (fun r s6 h9 => ?_)
        obtain ⟨rfl, e9⟩ := h9
        show P 36 [some tR, some (iv (nI lo)), some (iv (nI _)), some (iv (nI v))] [rf 10] s6
        exact hP _ _ _ _ ⟨1, a + 4, nF0, _, S1.a rfl, e9⟩
  refine hP _ _ _ _ ?_
  show P 18 [some tR, some (iv (nI lo)), some (iv (nI hi)), some (iv (nI 0))] [] (sI u1 9 2 (nI a))
  exact loop (dEn tp a - a) a 0 (by omega) (Nat.le_refl _) (by omega) (by unfold sub_; rw [Nat.sub_self]; rfl) (by rw [Nat.sub_self]; decide)
end DR_
