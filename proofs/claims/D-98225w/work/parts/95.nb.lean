def posOf {α : Type} (r : PR α) : Pos := match r with
  | .ok x => .ok x.2
  | .error f => .error f
def bnd (S : Pos) (k : Nat → Pos) : Pos := match S with
  | .ok a => k a
  | .error f => .error f
theorem lN_leN {a b : Nat} (ha : a < 100000000) (hb : b < 100000000) : lN a ≤ lN b ↔ a ≤ b := by
  rw [Int64.le_iff_toInt_le, lN_toInt (by omega), lN_toInt (by omega)]
  omega
theorem numV_lt (tp : List Nat) (a : Nat) : ∀ (m : Nat), m ≤ 4 → (∀ i, a ≤ i → i < a + m → isAt isD tp i = true) → numV (sub_ tp a (a + m)) < 10 ^ m
  | 0, _, _ => by rw [Nat.add_zero, sub_nil]; decide
  | m+1, hm, h => by
    have h1 := h (a + m) (by omega) (by omega)
    have hl := isAt_lt h1
    obtain ⟨c, hc⟩ : ∃ c, tp[a + m]? = some c := ⟨_, List.getElem?_eq_getElem hl⟩
    rw [isAt_some hc] at h1
    have h1 := of_decide_eq_true h1
    have ih := numV_lt tp a m (by omega) (fun i h2 h3 => h i h2 (by omega))
    rw [show a + (m+1) = (a + m) + 1 by omega, sub_succ (by omega) hc, numV_snoc]
    have : 10 ^ (m+1) = 10 * 10 ^ m := by rw [Nat.pow_succ]; omega
    omega
section NB_
variable (G : CX) (g : GX) (l : Launch) (d : Nat) (σ : AS)
theorem c_fail0 (tp : List Nat) (hB : PB tp σ) (h5 : gI σ 200 5 = nI 0) (x y : Int32) (k p : Nat) (hx : x = nI k) (hy : y = nI p) (hk : 1 ≤ k) (hk9 : k ≤ 9) (hp : p ≤ 1600) :
    MC G g l (d+1) mX6_fail [tM, iv x, iv y] σ (fun r t => r = none ∧ mS [5, 6] [] σ t ∧ PF tp (k, p) t) := by
  subst hx; subst hy
  refine MC0 tX6_fail rfl okX6_fail rfl rfl rfl rfl (fun P => ?_)
  exact And.intro (fun _ => ⟨rfl, (mS.rf.f rfl).f rfl, hB.keep (fs := [5, 6]) (ids := []) ((mS.rf.f rfl).f rfl) rfl rfl, rfl, ⟨hk, hk9⟩, rfl, hp⟩) (fun q => absurd h5 q)
set_option maxHeartbeats 2000000 in
theorem c_number (tp : List Nat) (S : Pos) (h : PX tp S σ) (x y : Int32) (lo hi : Nat) (hx : x = nI lo) (hy : y = nI hi) (hlo : lo ≤ 100000) (hhi : hi ≤ 100000) :
    MC G g l (d+2) mX6_number [tM, iv x, iv y] σ (fun r t => mS [2, 4, 5, 6] [] σ t ∧ PX tp (bnd S (fun a => posOf (numF tp lo hi a))) t ∧ ∃ v, r = some (iv v) ∧ ∀ a z, S = .ok a → numF tp lo hi a = .ok z → v = nI z.1) := by
  subst hx; subst hy
  refine MC1 tX6_number [14, 26, 70, 86] rfl okX6_number rfl rfl rfl rfl (fun P hP => ?_)
  refine hP _ _ _ _ ?_
  cases S with
  | error f => exact And.intro (fun q => absurd q (pf_bad h)) (fun _ => ⟨mS.rf, h, _, rfl, fun a z e => by cases e⟩)
  | ok a =>
    obtain ⟨a', h9⟩ := h
    refine And.intro (fun _ => ?_) (fun q => absurd h9.2.1 q)
    refine mcall (c_look G g l d σ tp a a' h9) (fun r s1 h8 => ?_)
    obtain ⟨rfl, S1, O1⟩ := h8
    obtain ⟨p1, p2, p3, p4, p5, p6, e, p7, p8, p9, p10⟩ := O1
    have O1 : PO tp a a s1 := ⟨p1, p2, p3, p4, p5, p6, e, p7, p8, p9, p10⟩
    have hl := p1.len
    have S1' : mS [2, 4, 5, 6] [] σ s1 := S1.mono rfl rfl
    have no : (isAt isD tp a = false ∨ prLD tp a = true) → P 14 [some tM, some (iv (nI lo)), some (iv (nI hi)), none, none] [] s1 := by
      intro hc
      refine hP _ _ _ _ ?_
      refine mcall (c_fail0 G g l (d+0) s1 tp p1 p2 _ _ 1 a rfl p3 (by omega) (by omega) (by omega)) (fun r s2 h8 => ?_)
      obtain ⟨rfl, S2, F2⟩ := h8
      have en : numF tp lo hi a = .error (1, a) := by unfold numF; rw [if_pos hc]
      refine ⟨S1'.tr (S2.mono rfl rfl), ?_, _, rfl, fun b z e1 e2 => ?_⟩
      · show PX tp (posOf (numF tp lo hi a)) s2
        rw [en]
        exact F2
      · cases e1
        rw [en] at e2
        cases e2
    refine mcall (c_isDigit G g l d s1 (byI tp a)) (fun r s2 h8 => ?_)
    obtain ⟨rfl, rfl⟩ := h8
    rw [digI p1.1 a]
    cases hD : isAt isD tp a with
    | false => exact And.intro (fun _ => no (Or.inl hD)) (fun q => absurd rfl q)
    | true =>
      refine And.intro (fun q => absurd q (by decide)) (fun _ => And.intro (fun q => ?_) (fun q => no (Or.inr (pr_eq p3 p7 p9 (by omega) (by omega) q))))
      have hpr : prLD tp a = false := pr_ne p3 p7 p9 (by omega) (by omega) q
      have hnc : ¬ (isAt isD tp a = false ∨ prLD tp a = true) := by rw [hD, hpr]; simp
      have hdl : dEn tp a ≤ tp.length := endE_le isD p5
      have hd1 : a + 1 ≤ dEn tp a := by
        have e9 : endE isD tp a = endE isD tp (a+1) := endE_step hD
        have := endE_ge isD tp (a+1)
        show a + 1 ≤ endE isD tp a
        omega
      have dig : ∀ i, a ≤ i → i < dEn tp a → isAt isD tp i = true := fun i h1 h2 => endE_in (p := isD) (a := a) h1 h2
      -- behind the last digit
      have fin : ∀ τ, mS [2, 4, 5, 6] [] s2 τ → PB tp τ → (gI τ 200 5 = nI 0 ∧ gI τ 200 6 = - nI 1) → gI τ 200 2 = nI (dEn tp a) → dEn tp a - a ≤ 4 → P 70 [some tM, some (iv (nI lo)), some (iv (nI hi)), some (iv (nI a)), some (iv (nI (numV (sub_ tp a (dEn tp a)))))] [] τ := by
        intro τ hS hB h5 h2 h4
        have hv := numV_lt tp a (dEn tp a - a) h4 (fun i h1 h2 => dig i h1 (by omega))
        rw [show a + (dEn tp a - a) = dEn tp a by omega] at hv
        have hp4 : 10 ^ (dEn tp a - a) ≤ 10 ^ 4 := Nat.pow_le_pow_right (by omega) h4
        have hv9 : numV (sub_ tp a (dEn tp a)) < 10000 := by omega
        have S3 : mS [2, 4, 5, 6] [] s2 (sI τ 200 4 (gI τ 200 2)) := hS.f rfl
        have B3 : PB tp (sI τ 200 4 (gI τ 200 2)) := hB.keep (fs := [4]) (ids := []) (mS.rf.f rfl) rfl rfl
        have h53 : gI (sI τ 200 4 (gI τ 200 2)) 200 5 = nI 0 := by rw [gI_sI, if_neg (by omega)]; exact h5.1
        have h63 : gI (sI τ 200 4 (gI τ 200 2)) 200 6 = - nI 1 := by rw [gI_sI, if_neg (by omega)]; exact h5.2
        refine hP _ _ _ _ ?_
        refine mcall (c_isIn G g l (d+0) _ _ _ _) (fun r s3 h8 => ?_)
        obtain ⟨rfl, rfl⟩ := h8
        rw [nI_l (show numV (sub_ tp a (dEn tp a)) < 2147483648 by omega), nI_l (show lo < 2147483648 by omega), nI_l (show hi < 2147483648 by omega), show decide (lN lo ≤ lN (numV (sub_ tp a (dEn tp a))) ∧ lN (numV (sub_ tp a (dEn tp a))) ≤ lN hi) = decide (lo ≤ numV (sub_ tp a (dEn tp a)) ∧ numV (sub_ tp a (dEn tp a)) ≤ hi) from decide_eq_decide.mpr (by rw [lN_leN (by omega) (by omega), lN_leN (by omega) (by omega)])]
        by_cases hin : lo ≤ numV (sub_ tp a (dEn tp a)) ∧ numV (sub_ tp a (dEn tp a)) ≤ hi
        · rw [decide_eq_true hin]
          have en : numF tp lo hi a = .ok (numV (sub_ tp a (dEn tp a)), skp tp (dEn tp a)) := by unfold numF; rw [if_neg hnc, if_neg (by omega), if_pos hin]
          refine And.intro (fun _ => ?_) (fun q => absurd q (by decide))
          refine hP _ _ _ _ ⟨S1'.tr S3, ?_, _, rfl, fun b z e1 e2 => ?_⟩
          · show PX tp (posOf (numF tp lo hi a)) _
            rw [en]
            refine O1.behind B3 h53 h63 (by rw [gI_sI, if_neg (by omega)]; exact h2) (by rw [gI_sI, if_pos ⟨rfl, rfl⟩]; exact h2) (by omega) hdl ?_
            obtain ⟨j, hj⟩ : ∃ j, dEn tp a = j + 1 := ⟨dEn tp a - 1, by omega⟩
            rw [hj, prLD_s, dig j (by omega) (by omega)]
            simp
          · cases e1
            rw [en] at e2
            cases e2
            rfl
        · rw [decide_eq_false hin]
          have en : numF tp lo hi a = .error (2, a) := by unfold numF; rw [if_neg hnc, if_neg (by omega), if_neg hin]
          refine And.intro (fun q => absurd rfl q) (fun _ => ?_)
          refine mcall (c_fail0 G g l (d+0) _ tp B3 h53 _ _ 2 a rfl rfl (by omega) (by omega) (by omega)) (fun r s4 h8 => ?_)
          obtain ⟨rfl, S4, F4⟩ := h8
          refine hP _ _ _ _ ⟨(S1'.tr S3).tr (S4.mono rfl rfl), ?_, _, rfl, fun b z e1 e2 => ?_⟩
          · show PX tp (posOf (numF tp lo hi a)) _
            rw [en]
            exact F4
          · cases e1
            rw [en] at e2
            cases e2
      have key : ∀ (m k : Nat) (τ : AS), k + m = dEn tp a → a ≤ k → k - a ≤ 4 → mS [2, 4, 5, 6] [] s2 τ → PB tp τ → (gI τ 200 5 = nI 0 ∧ gI τ 200 6 = - nI 1) → gI τ 200 2 = nI k → P 26 [some tM, some (iv (nI lo)), some (iv (nI hi)), some (iv (nI a)), some (iv (nI (numV (sub_ tp a k))))] [] τ := by
        intro m
        induction m with
        | zero =>
          intro k τ hk hak hk4 hS hB h5 h2
          have ek : k = dEn tp a := by omega
          subst ek
          have h3 : gI τ 200 3 = nI tp.length := hB.2
          refine hP _ _ _ _ (And.intro (fun _ => fin τ hS hB h5 h2 hk4) (fun q => ?_))
          have q0 : ¬ gI τ 200 3 ≤ gI τ 200 2 := q
          rw [h2, h3, nI_leI (by omega) (by omega)] at q0
          obtain ⟨c, hc⟩ : ∃ c, tp[dEn tp a]? = some c := ⟨_, List.getElem?_eq_getElem (by omega)⟩
          have hv := hB.1.2 _ c hc
          refine And.intro (show vp_in (gI τ 200 2) 1600 from by rw [h2]; exact vinN (by omega) (by decide)) ?_
          refine mcall (c_isDigit G g l d τ _) (fun r s3 h8 => ?_)
          obtain ⟨rfl, rfl⟩ := h8
          rw [show gI s3 201 (gI s3 200 2).toNatClampNeg = byI tp (dEn tp a) by rw [h2, clN (by omega), hv.1]; unfold byI; rw [hc]]
          rw [digI p1.1, show isAt isD tp (dEn tp a) = false from endE_end isD tp a]
          exact And.intro (fun _ => fin s3 hS hB h5 h2 hk4) (fun q => absurd rfl q)
        | succ m ih =>
          intro k τ hk hak hk4 hS hB h5 h2
          have h3 : gI τ 200 3 = nI tp.length := hB.2
          have hkD : isAt isD tp k = true := dig k hak (by omega)
          have hkl := isAt_lt hkD
          obtain ⟨c, hc⟩ : ∃ c, tp[k]? = some c := ⟨_, List.getElem?_eq_getElem hkl⟩
          have hv := hB.1.2 _ c hc
          have hcd : isD c = true := by rw [isAt_some hc] at hkD; exact hkD
          have hcd := of_decide_eq_true hcd
          have vx : vp_in (gI τ 200 2) 1600 := by rw [h2]; exact vinN (by omega) (by decide)
          have gc : gI τ 201 (gI τ 200 2).toNatClampNeg = nI c := by rw [h2, clN (by omega), hv.1]
          refine hP _ _ _ _ (And.intro (fun q => ?_) (fun _ => And.intro vx ?_))
          · have q0 : gI τ 200 3 ≤ gI τ 200 2 := q
            rw [h2, h3, nI_leI (by omega) (by omega)] at q0
            omega
          refine mcall (c_isDigit G g l d τ _) (fun r s3 h8 => ?_)
          obtain ⟨rfl, rfl⟩ := h8
          rw [show gI s3 201 (gI s3 200 2).toNatClampNeg = byI tp k by rw [gc]; unfold byI; rw [hc]]
          rw [digI p1.1, hkD]
          have ed : gI s3 200 2 - nI a = nI (k - a) := by rw [h2]; exact nI_s1 _ _ hak
          refine And.intro (fun q => absurd q (by decide)) (fun _ => And.intro (fun q => ?_) (fun q => ?_))
          · have q0 : ¬ gI s3 200 2 - nI a = nI 4 := q
            rw [ed, nI_eq (by omega) (by omega)] at q0
            have hvl := numV_lt tp a (k - a) hk4 (fun i h1 h2 => dig i h1 (by omega))
            rw [show a + (k - a) = k by omega] at hvl
            have hp4 : 10 ^ (k - a) ≤ 10 ^ 4 := Nat.pow_le_pow_right (by omega) hk4
            refine And.intro vx ?_
            show P 26 [some tM, some (iv (nI lo)), some (iv (nI hi)), some (iv (nI a)), some (iv (nI 10 * nI (numV (sub_ tp a k)) + gI s3 201 (gI s3 200 2).toNatClampNeg - nI 48))] [] (sI s3 200 2 (gI s3 200 2 + nI 1))
            rw [gc, h2, ix1, nI_add, nI_add, nI_s1 _ _ (by omega)]
            have ev : 10 * numV (sub_ tp a k) + c - 48 = numV (sub_ tp a (k+1)) := by rw [sub_succ hak hc, numV_snoc]
            rw [ev]
            have S5 : mS [2] [] s3 (sI s3 200 2 (nI (k+1))) := mS.rf.f rfl
            exact ih (k+1) _ (by omega) (by omega) (by omega) (hS.f rfl) (hB.keep S5 rfl rfl) ⟨by rw [S5.i 200 5 rfl rfl]; exact h5.1, by rw [S5.i 200 6 rfl rfl]; exact h5.2⟩ (by rw [gI_sI, if_pos ⟨rfl, rfl⟩])
          · have q0 : gI s3 200 2 - nI a = nI 4 := q
            rw [ed, nI_eq (by omega) (by omega)] at q0
            have en : numF tp lo hi a = .error (1, a + 4) := by unfold numF; rw [if_neg hnc, if_pos (by omega)]
            refine mcall (c_fail0 G g l (d+0) s3 tp hB h5.1 _ _ 1 (a+4) rfl (by rw [h2, show k = a + 4 by omega]) (by omega) (by omega) (by omega)) (fun r s4 h8 => ?_)
            obtain ⟨rfl, S4, F4⟩ := h8
            refine ⟨(S1'.tr hS).tr (S4.mono rfl rfl), ?_, _, rfl, fun b z e1 e2 => ?_⟩
            · show PX tp (posOf (numF tp lo hi a)) _
              rw [en]
              exact F4
            · cases e1
              rw [en] at e2
              cases e2
      show P 26 [some tM, some (iv (nI lo)), some (iv (nI hi)), some (iv (gI s2 200 2)), some (iv (nI 0))] [] s2
      rw [p3]
      have := key (dEn tp a - a) a s2 (by omega) (Nat.le_refl _) (by omega) mS.rf p1 ⟨p2, p10⟩ p3
      rw [sub_nil] at this
      exact this
end NB_
