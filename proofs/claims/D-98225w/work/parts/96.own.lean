section OW_
variable (G : CX) (g : GX) (l : Launch) (d : Nat) (σ : AS)
def askWs : List (List Nat) := [wFirst, wLast, wOften, wTotal, wMost, wLeast, wNot, wAnd, wOr, wAll, wMin, wMax, wHour, wClock, wDay, wWidth, wTide, wPasses]
/-- all words stand in their arrays -/
def Wds (σ : AS) : Prop := (∀ i w, ownWs[i]? = some w → Wd (203 + i) w σ) ∧ (∀ i w, askWs[i]? = some w → Wd (246 + i) w σ)
def noW (ids : List Nat) : Bool := ids.all (fun i => (Nat.blt i 203 || Nat.blt 219 i) && (Nat.blt i 246 || Nat.blt 263 i))
theorem noW_c {ids : List Nat} (h : noW ids = true) (i : Nat) (hi : (203 ≤ i ∧ i ≤ 219) ∨ (246 ≤ i ∧ i ≤ 263)) : ids.contains i = false := by
  cases hc : ids.contains i with
  | false => rfl
  | true =>
    have hm : i ∈ ids := by simpa using hc
    have := List.all_eq_true.mp h i hm
    simp only [Bool.and_eq_true, Bool.or_eq_true, Nat.blt_eq] at this
    omega
theorem nbq_ne {a b : Nat} : Nat.beq a b = false ↔ a ≠ b := by
  constructor
  · intro h e
    rw [e, Nat.beq_refl] at h
    cases h
  · intro h
    cases hc : Nat.beq a b with
    | false => rfl
    | true => exact absurd (Nat.eq_of_beq_eq_true hc) h
theorem Wds.keep {fs ids : List Nat} {σ s : AS} (h : Wds σ) (hS : mS fs ids σ s) (h1 : noW ids = true) : Wds s := by
  refine ⟨fun i w hw => (h.1 i w hw).keep hS (noW_c h1 _ ?_) (by rw [nbq_ne]; omega), fun i w hw => (h.2 i w hw).keep hS (noW_c h1 _ ?_) (by rw [nbq_ne]; omega)⟩
  · have := (List.getElem?_eq_some_iff.mp hw).1
    have e : ownWs.length = 17 := rfl
    omega
  · have := (List.getElem?_eq_some_iff.mp hw).1
    have e : askWs.length = 18 := rfl
    omega
def ownS (tp : List Nat) (S : Pos) : Bool := match S with
  | .ok a => ownH tp a
  | .error _ => false
set_option maxHeartbeats 4000000 in
theorem c_isOwnHere (tp : List Nat) (S : Pos) (h : PX tp S σ) (hW : Wds σ) : MC G g l (d+3) mX6_isOwnHere [tM] σ (fun r t => r = some (iv (bI (ownS tp S))) ∧ mS [2] [] σ t ∧ PE tp S t) := by
  have eown : ownS tp S = (kwS tp wPlace S|| (kwS tp wStreet S || (kwS tp wFrom S || (kwS tp wTo S || (kwS tp wTakes S || (kwS tp wRound S || (kwS tp wShift S || (kwS tp wWide S || (kwS tp wWalker S || (kwS tp wBroad S || (kwS tp wAt S || (kwS tp wBegin S || (kwS tp wTide S || (kwS tp wClock S || (kwS tp wDay S || (kwS tp wMin S || (kwS tp wMax S))))))))))))))))) := by
    cases S with
    | error f => rfl
    | ok a =>
      show ownH tp a = _
      unfold ownH ownWs
      simp only [List.any_cons, List.any_nil, Bool.or_false]
      rfl
  refine MC1 tX6_isOwnHere [30, 34, 66, 70, 97, 101] rfl okX6_isOwnHere rfl rfl rfl rfl (fun P hP => ?_)
  have y101 : ∀ (τ : AS) (b : Bool), b = ownS tp S → mS [2] [] σ τ → PE tp S τ → P 101 [some tM, some (iv (bI b))] [] τ := by
    intro τ b hb hS hE
    exact hP _ _ _ _ ⟨nar_bI _, by rw [hb], hS, hE⟩
  have y97 : ∀ (τ : AS) (x1 : Int32), ownS tp S = true → mS [2] [] σ τ → PE tp S τ → P 97 [some tM, some (iv x1)] [] τ := fun τ x1 e hS hE => hP _ _ _ _ (y101 τ true e.symm hS hE)
  have y70 : ∀ (τ : AS), ownS tp S = true → mS [2] [] σ τ → PE tp S τ → P 70 [some tM, some (iv (bI true))] [] τ := fun τ e hS hE => hP _ _ _ _ (And.intro (fun _ => y97 τ _ e hS hE) (fun q => absurd q (by decide)))
  have y66 : ∀ (τ : AS) (x1 : Int32), ownS tp S = true → mS [2] [] σ τ → PE tp S τ → P 66 [some tM, some (iv x1)] [] τ := fun τ x1 e hS hE => hP _ _ _ _ (y70 τ e hS hE)
  have y34 : ∀ (τ : AS), ownS tp S = true → mS [2] [] σ τ → PE tp S τ → P 34 [some tM, some (iv (bI true))] [] τ := fun τ e hS hE => hP _ _ _ _ (And.intro (fun _ => y66 τ _ e hS hE) (fun q => absurd q (by decide)))
  have y30 : ∀ (τ : AS), ownS tp S = true → mS [2] [] σ τ → PE tp S τ → P 30 [some tM, none] [] τ := fun τ e hS hE => hP _ _ _ _ (y34 τ e hS hE)
  refine hP _ _ _ _ ?_
  refine mcall (c_isHere_203 G g l d σ tp S h ((hW).1 0 wPlace rfl)) (fun r t0 h8 => ?_)
  obtain ⟨rfl, S0, E0⟩ := h8
  have Q0 : mS [2] [] σ t0 := S0
  cases k0 : kwS tp wPlace S with
  | true => exact And.intro (fun _ => y30 t0 (by rw [eown, k0]; simp) Q0 E0) (fun q => absurd q (by decide))
  | false =>
    refine And.intro (fun q => absurd rfl q) (fun _ => ?_)
    refine mcall (c_isHere_204 G g l d t0 tp S E0.px ((hW.keep Q0 rfl).1 1 wStreet rfl)) (fun r t1 h8 => ?_)
    obtain ⟨rfl, S1, E1⟩ := h8
    have Q1 : mS [2] [] σ t1 := Q0.tr S1
    cases k1 : kwS tp wStreet S with
    | true => exact And.intro (fun _ => y30 t1 (by rw [eown, k0, k1]; simp) Q1 E1) (fun q => absurd q (by decide))
    | false =>
      refine And.intro (fun q => absurd rfl q) (fun _ => ?_)
      refine mcall (c_isHere_205 G g l d t1 tp S E1.px ((hW.keep Q1 rfl).1 2 wFrom rfl)) (fun r t2 h8 => ?_)
      obtain ⟨rfl, S2, E2⟩ := h8
      have Q2 : mS [2] [] σ t2 := Q1.tr S2
      cases k2 : kwS tp wFrom S with
      | true => exact And.intro (fun _ => y30 t2 (by rw [eown, k0, k1, k2]; simp) Q2 E2) (fun q => absurd q (by decide))
      | false =>
        refine And.intro (fun q => absurd rfl q) (fun _ => ?_)
        refine mcall (c_isHere_206 G g l d t2 tp S E2.px ((hW.keep Q2 rfl).1 3 wTo rfl)) (fun r t3 h8 => ?_)
        obtain ⟨rfl, S3, E3⟩ := h8
        have Q3 : mS [2] [] σ t3 := Q2.tr S3
        cases k3 : kwS tp wTo S with
        | true => exact And.intro (fun _ => y30 t3 (by rw [eown, k0, k1, k2, k3]; simp) Q3 E3) (fun q => absurd q (by decide))
        | false =>
          refine And.intro (fun q => absurd rfl q) (fun _ => ?_)
          refine mcall (c_isHere_207 G g l d t3 tp S E3.px ((hW.keep Q3 rfl).1 4 wTakes rfl)) (fun r t4 h8 => ?_)
          obtain ⟨rfl, S4, E4⟩ := h8
          have Q4 : mS [2] [] σ t4 := Q3.tr S4
          cases k4 : kwS tp wTakes S with
          | true => exact And.intro (fun _ => y30 t4 (by rw [eown, k0, k1, k2, k3, k4]; simp) Q4 E4) (fun q => absurd q (by decide))
          | false =>
            refine And.intro (fun q => absurd rfl q) (fun _ => ?_)
            refine mcall (c_isHere_208 G g l d t4 tp S E4.px ((hW.keep Q4 rfl).1 5 wRound rfl)) (fun r t5 h8 => ?_)
            obtain ⟨rfl, S5, E5⟩ := h8
            have Q5 : mS [2] [] σ t5 := Q4.tr S5
            cases k5 : kwS tp wRound S with
            | true => exact And.intro (fun q => absurd q (by decide)) (fun _ => y30 t5 (by rw [eown, k0, k1, k2, k3, k4, k5]; simp) Q5 E5)
            | false =>
              refine And.intro (fun _ => ?_) (fun q => absurd rfl q)
              show P 34 [some tM, some (iv (bI false))] [] t5
              refine hP _ _ _ _ (And.intro (fun q => absurd rfl q) (fun _ => ?_))
              refine mcall (c_isHere_209 G g l d t5 tp S E5.px ((hW.keep Q5 rfl).1 6 wShift rfl)) (fun r t6 h8 => ?_)
              obtain ⟨rfl, S6, E6⟩ := h8
              have Q6 : mS [2] [] σ t6 := Q5.tr S6
              cases k6 : kwS tp wShift S with
              | true => exact And.intro (fun _ => y66 t6 _ (by rw [eown, k0, k1, k2, k3, k4, k5, k6]; simp) Q6 E6) (fun q => absurd q (by decide))
              | false =>
                refine And.intro (fun q => absurd rfl q) (fun _ => ?_)
                refine mcall (c_isHere_210 G g l d t6 tp S E6.px ((hW.keep Q6 rfl).1 7 wWide rfl)) (fun r t7 h8 => ?_)
                obtain ⟨rfl, S7, E7⟩ := h8
                have Q7 : mS [2] [] σ t7 := Q6.tr S7
                cases k7 : kwS tp wWide S with
                | true => exact And.intro (fun _ => y66 t7 _ (by rw [eown, k0, k1, k2, k3, k4, k5, k6, k7]; simp) Q7 E7) (fun q => absurd q (by decide))
                | false =>
                  refine And.intro (fun q => absurd rfl q) (fun _ => ?_)
                  refine mcall (c_isHere_211 G g l d t7 tp S E7.px ((hW.keep Q7 rfl).1 8 wWalker rfl)) (fun r t8 h8 => ?_)
                  obtain ⟨rfl, S8, E8⟩ := h8
                  have Q8 : mS [2] [] σ t8 := Q7.tr S8
                  cases k8 : kwS tp wWalker S with
                  | true => exact And.intro (fun _ => y66 t8 _ (by rw [eown, k0, k1, k2, k3, k4, k5, k6, k7, k8]; simp) Q8 E8) (fun q => absurd q (by decide))
                  | false =>
                    refine And.intro (fun q => absurd rfl q) (fun _ => ?_)
                    refine mcall (c_isHere_212 G g l d t8 tp S E8.px ((hW.keep Q8 rfl).1 9 wBroad rfl)) (fun r t9 h8 => ?_)
                    obtain ⟨rfl, S9, E9⟩ := h8
                    have Q9 : mS [2] [] σ t9 := Q8.tr S9
                    cases k9 : kwS tp wBroad S with
                    | true => exact And.intro (fun _ => y66 t9 _ (by rw [eown, k0, k1, k2, k3, k4, k5, k6, k7, k8, k9]; simp) Q9 E9) (fun q => absurd q (by decide))
                    | false =>
                      refine And.intro (fun q => absurd rfl q) (fun _ => ?_)
                      refine mcall (c_isHere_213 G g l d t9 tp S E9.px ((hW.keep Q9 rfl).1 10 wAt rfl)) (fun r t10 h8 => ?_)
                      obtain ⟨rfl, S10, E10⟩ := h8
                      have Q10 : mS [2] [] σ t10 := Q9.tr S10
                      cases k10 : kwS tp wAt S with
                      | true => exact And.intro (fun _ => y66 t10 _ (by rw [eown, k0, k1, k2, k3, k4, k5, k6, k7, k8, k9, k10]; simp) Q10 E10) (fun q => absurd q (by decide))
                      | false =>
                        refine And.intro (fun q => absurd rfl q) (fun _ => ?_)
                        refine mcall (c_isHere_214 G g l d t10 tp S E10.px ((hW.keep Q10 rfl).1 11 wBegin rfl)) (fun r t11 h8 => ?_)
                        obtain ⟨rfl, S11, E11⟩ := h8
                        have Q11 : mS [2] [] σ t11 := Q10.tr S11
                        cases k11 : kwS tp wBegin S with
                        | true => exact And.intro (fun q => absurd q (by decide)) (fun _ => y66 t11 _ (by rw [eown, k0, k1, k2, k3, k4, k5, k6, k7, k8, k9, k10, k11]; simp) Q11 E11)
                        | false =>
                          refine And.intro (fun _ => ?_) (fun q => absurd rfl q)
                          show P 70 [some tM, some (iv (bI false))] [] t11
                          refine hP _ _ _ _ (And.intro (fun q => absurd rfl q) (fun _ => ?_))
                          refine mcall (c_isHere_215 G g l d t11 tp S E11.px ((hW.keep Q11 rfl).1 12 wTide rfl)) (fun r t12 h8 => ?_)
                          obtain ⟨rfl, S12, E12⟩ := h8
                          have Q12 : mS [2] [] σ t12 := Q11.tr S12
                          cases k12 : kwS tp wTide S with
                          | true => exact And.intro (fun _ => y97 t12 _ (by rw [eown, k0, k1, k2, k3, k4, k5, k6, k7, k8, k9, k10, k11, k12]; simp) Q12 E12) (fun q => absurd q (by decide))
                          | false =>
                            refine And.intro (fun q => absurd rfl q) (fun _ => ?_)
                            refine mcall (c_isHere_216 G g l d t12 tp S E12.px ((hW.keep Q12 rfl).1 13 wClock rfl)) (fun r t13 h8 => ?_)
                            obtain ⟨rfl, S13, E13⟩ := h8
                            have Q13 : mS [2] [] σ t13 := Q12.tr S13
                            cases k13 : kwS tp wClock S with
                            | true => exact And.intro (fun _ => y97 t13 _ (by rw [eown, k0, k1, k2, k3, k4, k5, k6, k7, k8, k9, k10, k11, k12, k13]; simp) Q13 E13) (fun q => absurd q (by decide))
                            | false =>
                              refine And.intro (fun q => absurd rfl q) (fun _ => ?_)
                              refine mcall (c_isHere_217 G g l d t13 tp S E13.px ((hW.keep Q13 rfl).1 14 wDay rfl)) (fun r t14 h8 => ?_)
                              obtain ⟨rfl, S14, E14⟩ := h8
                              have Q14 : mS [2] [] σ t14 := Q13.tr S14
                              cases k14 : kwS tp wDay S with
                              | true => exact And.intro (fun _ => y97 t14 _ (by rw [eown, k0, k1, k2, k3, k4, k5, k6, k7, k8, k9, k10, k11, k12, k13, k14]; simp) Q14 E14) (fun q => absurd q (by decide))
                              | false =>
                                refine And.intro (fun q => absurd rfl q) (fun _ => ?_)
                                refine mcall (c_isHere_218 G g l d t14 tp S E14.px ((hW.keep Q14 rfl).1 15 wMin rfl)) (fun r t15 h8 => ?_)
                                obtain ⟨rfl, S15, E15⟩ := h8
                                have Q15 : mS [2] [] σ t15 := Q14.tr S15
                                cases k15 : kwS tp wMin S with
                                | true => exact And.intro (fun _ => y97 t15 _ (by rw [eown, k0, k1, k2, k3, k4, k5, k6, k7, k8, k9, k10, k11, k12, k13, k14, k15]; simp) Q15 E15) (fun q => absurd q (by decide))
                                | false =>
                                  refine And.intro (fun q => absurd rfl q) (fun _ => ?_)
                                  refine mcall (c_isHere_219 G g l d t15 tp S E15.px ((hW.keep Q15 rfl).1 16 wMax rfl)) (fun r t16 h8 => ?_)
                                  obtain ⟨rfl, S16, E16⟩ := h8
                                  have Q16 : mS [2] [] σ t16 := Q15.tr S16
                                  cases k16 : kwS tp wMax S with
                                  | true => exact And.intro (fun q => absurd q (by decide)) (fun _ => y97 t16 _ (by rw [eown, k0, k1, k2, k3, k4, k5, k6, k7, k8, k9, k10, k11, k12, k13, k14, k15, k16]; simp) Q16 E16)
                                  | false =>
                                    refine And.intro (fun _ => ?_) (fun q => absurd rfl q)
                                    exact y101 t16 false (by rw [eown, k0, k1, k2, k3, k4, k5, k6, k7, k8, k9, k10, k11, k12, k13, k14, k15, k16]; rfl) Q16 E16
end OW_
