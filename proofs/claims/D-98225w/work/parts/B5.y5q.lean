section Y5_q
variable (G : CX) (g : GX) (l : Launch) (d : Nat) (σ : AS)
def SumRq (tp V C : List Nat) (o : Nat) (res : Except Flt (List Nat × Nat)) (t : AS) : Prop :=
  match res with
  | .ok x => PX tp (.ok x.2) t ∧ MFq V (C ++ x.1) o t
  | .error f => YErq tp f t
set_option maxRecDepth 20000 in
set_option maxHeartbeats 2000000 in
theorem c_qSums (tp V C : List Nat) (o a : Nat) (hX : PX tp (.ok a) σ) (hM : MFq V C o σ) (hC : C.length + V.length < a) (hV : topN isOp V) (hW : Wds σ) :
    MC G g l (d+7) mX6_qSums [tM] σ (fun r t => r = none ∧ ySq σ t ∧ gI t 200 93 = gI σ 200 93 ∧ SumRq tp V C o (sumP true tp o a) t) := by
  have hal : a ≤ tp.length ∧ tp.length ≤ 1600 := by
    obtain ⟨a', h1⟩ := hX
    exact ⟨h1.2.2.2.2.1, h1.1.len⟩
  have hY0 : ∀ res, sumP true tp o a = res → Rch true tp (0, [], C, o, a) (match res with
      | .ok x => (2, [], C ++ x.1, o, x.2)
      | .error f => yflt f) := by
    intro res hr
    have h9 := prs_yard0 (q := true) (C := C) (o := o) (r := res) (by rw [sumP_is (q := true) (o := o) hal.1, hr])
    cases res <;> exact h9
  generalize hr : sumP true tp o a = res
  have hY := hY0 res hr
  have h2r : 2 ≤ (match res with
      | .ok x => ((2, [], C ++ x.1, o, x.2) : YS)
      | .error f => yflt f).1 := by
    cases res with
    | ok x => exact Nat.le_refl 2
    | error f => show 2 ≤ 3; omega
  refine MC1 tX6_qSums [9, 27, 38] rfl okX6_qSums rfl rfl rfl rfl (fun P hP => ?_)
  -- the end
  have fin : ∀ (τ : AS) (z : Option AV), ySq σ τ → SumRq tp V C o res τ → P 38 [some tM, some (iv (gI σ 200 93)), z] [] τ := by
    intro τ z hS h9
    have S1 : mS [93] [] τ (sI τ 200 93 (gI σ 200 93)) := mS.rf.f rfl
    refine hP _ _ _ _ ⟨rfl, hS.tr (ySq.of S1 rfl), by rw [gI_sI, if_pos ⟨rfl, rfl⟩], ?_⟩
    cases res with
    | ok x => exact ⟨h9.1.keep S1 rfl, h9.2.keep S1 rfl⟩
    | error f => exact ⟨PX.keep (S := .error f) h9.1 S1 rfl, by obtain ⟨n, h1, h2⟩ := h9.2; exact ⟨n, h1, by rw [S1.i 200 89 rfl rfl]; exact h2⟩⟩
  have flt : ∀ (τ : AS) (f : Flt), ySq σ τ → Rch true tp (0, [], C, o, a) (yflt f) → YErq tp f τ → P 9 [some tM, some (iv (gI σ 200 93)), some (iv (nI 0))] [] τ := by
    intro τ f hS hR hF
    have hu := hY.uniq hR h2r (by show 2 ≤ 3; omega)
    have hres : res = .error f := by
      cases res with
      | ok x => simp [yflt] at hu
      | error f2 =>
        obtain ⟨k1, p1⟩ := f
        obtain ⟨k2, p2⟩ := f2
        simp [yflt] at hu
        rw [hu.1, hu.2]
    refine hP _ _ _ _ (And.intro (fun _ => ?_) (fun q => absurd rfl q))
    refine hP _ _ _ _ (And.intro (fun _ => ?_) (fun q => absurd q (pf_bad hF.1)))
    exact fin τ _ hS (by rw [hres]; exact hF)
  have done : ∀ (W' C' : List Nat) (τ : AS) (o' a' : Nat) (z : Option AV), ySq σ τ → Rch true tp (0, [], C, o, a) (2, [], C' ++ W', o', a') → PX tp (.ok a') τ → MYq V W' C' o' τ → P 27 [some tM, some (iv (gI σ 200 93)), z] [] τ := by
    intro W'
    induction W' with
    | nil =>
      intro C' τ o' a' z hS hR hX9 hM9
      have hu := hY.uniq hR h2r (Nat.le_refl 2)
      have hb : gI τ 200 91 ≤ gI τ 200 93 := by rw [hM9.1.2.1, hM9.2]; exact Int32.le_refl _
      refine hP _ _ _ _ (And.intro (fun q => absurd (PE.bad0 hX9) q) (fun _ => And.intro (fun _ => fin τ _ hS ?_) (fun q => absurd hb q)))
      cases res with
      | error f2 => simp [yflt] at hu
      | ok x =>
        simp at hu
        obtain ⟨h1, h2, h3⟩ := hu
        refine ⟨by rw [h3]; exact hX9, ?_⟩
        rw [h1, h2]
        exact hM9.1
    | cons v W'' ih =>
      intro C' τ o' a' z hS hR hX9 hM9
      have hl := hM9.1.2.2.2.2.2.2.2
      have h2 : gI τ 200 91 = nI ((W'' ++ V).length + 1) := hM9.1.2.1
      rw [List.length_append] at hl
      simp only [List.length_cons] at hl
      have hb : ¬ gI τ 200 91 ≤ gI τ 200 93 := by
        rw [h2, hM9.2, List.length_append, nI_leI (by omega) (by omega)]
        omega
      refine hP _ _ _ _ (And.intro (fun q => absurd (PE.bad0 hX9) q) (fun _ => And.intro (fun q => absurd q hb) (fun _ => ?_)))
      refine mcall (c_qDrops G g l (d+4) τ (W'' ++ V) C' o' v hM9.1) (fun r s2 h9 => ?_)
      obtain ⟨rfl, S2, H2, M2⟩ := h9
      refine ih (C' ++ [v]) s2 o' a' z (hS.tr (ySq.ofA S2 rfl H2)) (by simpa using hR) (hX9.keep S2 rfl) ⟨M2, by rw [S2.i 200 93 rfl rfl]; exact hM9.2⟩
  have key : ∀ (m : Nat) (W' C' : List Nat) (o' a' : Nat) (τ : AS), tp.length - a' < m → ySq σ τ → Rch true tp (0, [], C, o, a) (0, W', C', o', a') → YOkq tp V W' C' o' a' τ → P 9 [some tM, some (iv (gI σ 200 93)), some (iv (nI 1))] [] τ := by
    intro m
    induction m with
    | zero => intro W' C' o' a' τ hm; omega
    | succ m ih =>
      intro W' C' o' a' τ hm hS hR hO
      refine hP _ _ _ _ (And.intro (fun q => absurd q (by decide)) (fun _ => And.intro (fun q => absurd (PE.bad0 hO.1) q) (fun _ => ?_)))
      refine mcall (c_qPartTold G g l d τ tp V W' C' o' a' hO (hW.keep hS.1 rfl)) (fun r s1 h9 => ?_)
      obtain ⟨rfl, S1, y, R1, ⟨W1, C1, o1, a1, rfl, ha1, O1⟩ | ⟨f, rfl, F1⟩⟩ := h9
      · have Q1 := hS.tr S1
        refine And.intro (fun q => absurd (PE.bad0 O1.1) q) (fun _ => ?_)
        refine mcall (c_qGoesOn G g l (d+1) s1 tp V W1 C1 o1 a1 O1 hV) (fun r s2 h9 => ?_)
        obtain ⟨S2, y, R2, ⟨W2, C2, o2, a2, rfl, ha2, rfl, O2⟩ | ⟨W2, C2, o2, a2, rfl, ha2, rfl, O2⟩ | ⟨f, rfl, rfl, F2⟩⟩ := h9
        · refine And.intro (fun q => absurd q (by decide)) (fun _ => ?_)
          have := O2.le
          exact ih W2 C2 o2 a2 s2 (by omega) (Q1.tr S2) ((hR.tr R1).tr R2) O2
        · refine And.intro (fun _ => ?_) (fun q => absurd rfl q)
          refine hP _ _ _ _ (And.intro (fun _ => ?_) (fun q => absurd rfl q))
          exact done W2 C2 s2 o2 a2 _ (Q1.tr S2) ((hR.tr R1).tr R2) O2.1 O2.2.1
        · refine And.intro (fun _ => ?_) (fun q => absurd rfl q)
          exact flt s2 f (Q1.tr S2) ((hR.tr R1).tr R2) F2
      · refine And.intro (fun _ => ?_) (fun q => absurd q (pf_bad F1.1))
        exact flt s1 f (hS.tr S1) (hR.tr R1) F1
  have S0 : mS [93] [] σ (sI σ 200 93 (gI σ 200 91)) := mS.rf.f rfl
  refine hP _ _ _ _ ?_
  refine key (tp.length - a + 1) [] C o a (sI σ 200 93 (gI σ 200 91)) (by omega) (ySq.of S0 rfl) Rch.rf ⟨hX.keep S0 rfl, ⟨hM.keep S0 rfl, ?_⟩, fun v hv => by simp at hv, by show 0 ≤ o; omega, hM.2.2.2.2.2.2.1, ?_⟩
  · rw [gI_sI, if_pos ⟨rfl, rfl⟩, hM.2.1]
  · show C.length + (0 + V.length) < a
    omega
end Y5_q

