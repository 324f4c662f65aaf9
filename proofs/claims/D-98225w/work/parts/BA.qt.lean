section QT_
variable (G : CX) (g : GX) (l : Launch) (d : Nat) (σ : AS)
set_option maxRecDepth 20000 in
set_option maxHeartbeats 2000000 in
theorem c_qTest (tp C : List Nat) (o a : Nat) (hX : PX tp (.ok a) σ) (hM : MFq [] C o σ) (hC : C.length < a) (hW : Wds σ) :
    MC G g l (d+9) mX6_qTest [tM] σ (fun r t => r = none ∧ qS σ t ∧ gI t 200 93 = gI σ 200 93 ∧ FaR tp [] C o (testP tp o a) t) := by
  have hal : a ≤ tp.length ∧ tp.length ≤ 1600 := by obtain ⟨a', h1⟩ := hX; exact ⟨h1.2.2.2.2.1, h1.1.len⟩
  have hY0 : ∀ res, testP tp o a = res → TRc tp (0, [], C, o, a) (match res with
      | .ok x => (2, [], C ++ x.1, o, x.2)
      | .error f => yflt f) := by
    intro res hr
    have h9 := tst_yard0 (C := C) (r := res) (by rw [testP_is (o := o) hal.1, hr])
    cases res <;> exact h9
  generalize hr : testP tp o a = res
  have hY := hY0 res hr
  have h2r : 2 ≤ (match res with
      | .ok x => ((2, [], C ++ x.1, o, x.2) : YS)
      | .error f => yflt f).1 := by
    cases res with
    | ok x => exact Nat.le_refl 2
    | error f => show 2 ≤ 3; omega
  refine MC1 tX6_qTest [2, 55] rfl okX6_qTest rfl rfl rfl rfl (fun P hP => ?_)
  have flt55 : ∀ (τ : AS) (f : Flt) (z1 z2 : Option AV), qS σ τ → gI τ 200 93 = gI σ 200 93 → TRc tp (0, [], C, o, a) (yflt f) → PF tp f τ → P 55 [some tM, z1, z2] [] τ := by
    intro τ f z1 z2 hS hb hR hF
    have hu := hY.uniq hR h2r (by show 2 ≤ 3; omega)
    have hres : res = .error f := by
      cases res with
      | ok x => simp [yflt] at hu
      | error f2 =>
        obtain ⟨k1, p1⟩ := f
        obtain ⟨k2, p2⟩ := f2
        simp [yflt] at hu
        rw [hu.1, hu.2]
    refine hP _ _ _ _ (And.intro (fun _ => ?_) (fun q => absurd q (pf_bad hF)))
    rw [hres]
    exact ⟨rfl, hS, hb, hF⟩
  have flt : ∀ (τ : AS) (f : Flt) (x : Int32) (z2 : Option AV), qS σ τ → gI τ 200 93 = gI σ 200 93 → TRc tp (0, [], C, o, a) (yflt f) → PF tp f τ → P 2 [some tM, some (iv x), z2] [] τ := by
    intro τ f x z2 hS hb hR hF
    exact hP _ _ _ _ (And.intro (fun _ => flt55 τ f _ _ hS hb hR hF) (fun _ => And.intro (fun _ => flt55 τ f _ _ hS hb hR hF) (fun q => absurd q (pf_bad hF))))
  have done : ∀ (W' C' : List Nat) (o' a' : Nat) (τ : AS) (z1 z2 : Option AV), qS σ τ → gI τ 200 93 = gI σ 200 93 → TRc tp (0, [], C, o, a) (2, [], C' ++ W', o', a') → PX tp (.ok a') τ → MFq W' C' o' τ → P 55 [some tM, z1, z2] [] τ := by
    intro W'
    induction W' with
    | nil =>
      intro C' o' a' τ z1 z2 hS hb hR hX9 hM9
      have hu := hY.uniq hR h2r (Nat.le_refl 2)
      have hw : gI τ 200 91 ≤ nI 0 := by rw [hM9.2.1]; exact Int32.le_refl _
      refine hP _ _ _ _ (And.intro (fun q => absurd (PE.bad0 hX9) q) (fun _ => And.intro (fun _ => ?_) (fun q => absurd hw q)))
      cases res with
      | error f2 => simp [yflt] at hu
      | ok x =>
        simp at hu
        obtain ⟨h1, h2, h3⟩ := hu
        refine ⟨rfl, hS, hb, by rw [h3]; exact hX9, ?_⟩
        rw [h1, h2]
        exact hM9
    | cons v W'' ih =>
      intro C' o' a' τ z1 z2 hS hb hR hX9 hM9
      have h2 : gI τ 200 91 = nI (W''.length + 1) := hM9.2.1
      have h8 := hM9.2.2.2.2.2.2.2
      rw [List.length_cons] at h8
      have hw : ¬ gI τ 200 91 ≤ nI 0 := by rw [h2, nI_leI (by omega) (by omega)]; omega
      refine hP _ _ _ _ (And.intro (fun q => absurd (PE.bad0 hX9) q) (fun _ => And.intro (fun q => absurd q hw) (fun _ => ?_)))
      refine mcall (c_qDrops G g l (d+6) τ W'' C' o' v hM9) (fun r s2 h9 => ?_)
      obtain ⟨rfl, S2, H2, M2⟩ := h9
      exact ih (C' ++ [v]) o' a' s2 z1 z2 (hS.tr (S2.mono rfl rfl)) (by rw [S2.i 200 93 rfl rfl]; exact hb) (by simpa using hR) (hX9.keep S2 rfl) M2
  have key : ∀ (m : Nat) (W' C' : List Nat) (o' a' : Nat) (τ : AS) (z2 : Option AV), tp.length - a' < m → qS σ τ → gI τ 200 93 = gI σ 200 93 → TRc tp (0, [], C, o, a) (0, W', C', o', a') → YT tp W' C' o' a' τ → P 2 [some tM, some (iv (nI 1)), z2] [] τ := by
    intro m
    induction m with
    | zero => intro W' C' o' a' τ z2 hm; omega
    | succ m ih =>
      intro W' C' o' a' τ z2 hm hS hb hR hO
      have hle := YT.le hO
      obtain ⟨⟨a9, hX9⟩, hM9, hI⟩ := hO
      refine hP _ _ _ _ (And.intro (fun q => absurd q (by decide)) (fun _ => And.intro (fun q => absurd hX9.2.1 q) (fun _ => ?_)))
      refine mcall (c_look G g l (d+7) τ tp a' a9 hX9) (fun r s1 h9 => ?_)
      obtain ⟨rfl, S1, O1⟩ := h9
      have Q1 : qS σ s1 := hS.tr (S1.mono rfl rfl)
      have b1 : gI s1 200 93 = gI σ 200 93 := by rw [S1.i 200 93 rfl rfl]; exact hb
      have M1 := hM9.keep S1 rfl
      have yst : ∀ y, tP tp W' C' o' a' = y → TRc tp (0, [], C, o, a) y := fun y hy => hR.tr (TRc.one hy TRc.rf)
      -- one is opened
      have opn : ∀ (v b : Nat) (t : AS) (z2 : Option AV), qS σ t → gI t 200 93 = gI σ 200 93 → TRc tp (0, [], C, o, a) (0, v :: W', C', o' + 1, b) → a' < b → o' < 6 → (v = 12 ∨ v = 25) → PX tp (.ok b) t → MFq (v :: W') C' (o'+1) t → P 2 [some tM, some (iv (nI 1)), z2] [] t := by
        intro v b t z2 Q2 b2 R2 hb ho hv X2 M2
        have hbl : b ≤ tp.length := by obtain ⟨a8, h1⟩ := X2; exact h1.2.2.2.2.1
        refine ih (v :: W') C' (o'+1) b t z2 (by omega) Q2 b2 R2 ⟨X2, M2, fun u hu => ?_, ?_, by omega, ?_⟩
        · rcases List.mem_cons.mp hu with e | e
          · omega
          · exact hI.1 u e
        · rw [cntT_c, if_pos (by omega)]
          have := hI.2.1
          omega
        · rw [List.length_cons]
          omega
      by_cases h91 : tp[a']? = some 91
      · refine And.intro (fun q => absurd ((byI_eq O1.1.1 a' 91 (by omega)).mpr h91) q) (fun _ => ?_)
        have yv : tP tp W' C' o' a' = if o' = 6 then yflt (4, a') else (0, 25 :: W', C', o' + 1, skp tp (a'+1)) := if_pos h91
        refine mcall (c_qOpens G g l (d+6) s1 tp W' C' o' a' O1 M1 _ _ 25 a' rfl O1.2.2.1 (by omega) (by omega) (by omega)) (fun r s3 h9 => ?_)
        obtain ⟨rfl, S3, h9⟩ := h9
        have Q4 : qS σ s3 := Q1.tr (S3.mono rfl rfl)
        have b4 : gI s3 200 93 = gI σ 200 93 := by rw [S3.i 200 93 rfl rfl]; exact b1
        have S5 : mS [2] [] s3 (sI s3 200 2 (gI s3 200 2 + nI 1)) := mS.rf.f rfl
        have b5 : gI (sI s3 200 2 (gI s3 200 2 + nI 1)) 200 93 = gI σ 200 93 := by rw [S5.i 200 93 rfl rfl]; exact b4
        have hs := skp_ge tp (a'+1)
        rcases h9 with ⟨ho, F3, M4⟩ | ⟨ho, O3, M4⟩
        · exact flt _ (4, a') _ _ (Q4.tr (S5.mono rfl rfl)) b5 (yst _ (by rw [yv, if_pos ho])) F3.inc
        · exact opn 25 (skp tp (a'+1)) _ _ (Q4.tr (S5.mono rfl rfl)) b5 (yst _ (by rw [yv, if_neg (by omega)])) (by omega) ho (by omega) (O3.inc h91 ⟨rfl, rfl⟩ rfl) (M4.keep S5 rfl)
      · refine And.intro (fun _ => ?_) (fun q => absurd ((byI_eq O1.1.1 a' 91 (by omega)).mp q) h91)
        refine mcall (c_isHere_252 G g l (d+6) s1 tp (.ok a') ⟨_, O1⟩ ((hW.keep Q1 rfl).2 6 wNot rfl)) (fun r s2 h9 => ?_)
        obtain ⟨rfl, S2, E2⟩ := h9
        have Q2 : qS σ s2 := Q1.tr (S2.mono rfl rfl)
        have b2 : gI s2 200 93 = gI σ 200 93 := by rw [S2.i 200 93 rfl rfl]; exact b1
        have M2 := M1.keep S2 rfl
        have O2 : PO tp a' a' s2 := E2
        cases k1 : kw tp wNot a' with
        | true =>
          rw [show kwS tp wNot (.ok a') = true from k1]
          refine And.intro (fun q => absurd q (by decide)) (fun _ => ?_)
          have yv : tP tp W' C' o' a' = if o' = 6 then yflt (4, a') else (0, 12 :: W', C', o' + 1, skp tp (a'+3)) := by
            unfold tP
            rw [if_neg h91, if_pos k1]
          refine mcall (c_qOpens G g l (d+6) s2 tp W' C' o' a' O2 M2 _ _ 12 a' rfl O2.2.2.1 (by omega) (by omega) (by omega)) (fun r s3 h9 => ?_)
          obtain ⟨rfl, S3, h9⟩ := h9
          have Q4 : qS σ s3 := Q2.tr (S3.mono rfl rfl)
          have b4 : gI s3 200 93 = gI σ 200 93 := by rw [S3.i 200 93 rfl rfl]; exact b2
          have hs := skp_ge tp (a'+3)
          rcases h9 with ⟨ho, F3, M4⟩ | ⟨ho, O3, M4⟩
          · refine mcall (c_asks_252 G g l (d+4) s3 tp (.error (4, a')) F3 ((hW.keep Q4 rfl).2 6 wNot rfl)) (fun r s5 h9 => ?_)
            obtain ⟨rfl, S5, F5⟩ := h9
            exact flt s5 (4, a') _ _ (Q4.tr (S5.mono rfl rfl)) (by rw [S5.i 200 93 rfl rfl]; exact b4) (yst _ (by rw [yv, if_pos ho])) F5
          · refine mcall (c_asks_252 G g l (d+4) s3 tp (.ok a') ⟨_, O3⟩ ((hW.keep Q4 rfl).2 6 wNot rfl)) (fun r s5 h9 => ?_)
            obtain ⟨rfl, S5, X5⟩ := h9
            have X5 : PX tp (askW tp wNot a') s5 := X5
            rw [show askW tp wNot a' = .ok (skp tp (a' + 3)) from if_pos k1] at X5
            exact opn 12 (skp tp (a'+3)) s5 _ (Q4.tr (S5.mono rfl rfl)) (by rw [S5.i 200 93 rfl rfl]; exact b4) (yst _ (by rw [yv, if_neg (by omega)])) (by omega) ho (by omega) X5 (M4.keep S5 rfl)
        | false =>
          rw [show kwS tp wNot (.ok a') = false from k1]
          refine And.intro (fun _ => ?_) (fun q => absurd rfl q)
          have hV : topN isOp W' := fun v hv => by
            have hm : v ∈ W' := List.mem_of_head? hv
            have := hI.1 v hm
            exact decide_eq_false (by omega)
          have yv : tP tp W' C' o' a' = match factP tp o' a' with
              | .ok x => ymk (drN W' (C' ++ x.1) o') x.2
              | .error f => yflt f := by
            unfold tP
            rw [if_neg h91, if_neg (by rw [k1]; decide)]
            cases factP tp o' a' <;> rfl
          refine mcall (c_qFact G g l d s2 tp W' C' o' a' E2.px M2 hI.2.2.2 hV (hW.keep Q2 rfl)) (fun r s3 h9 => ?_)
          obtain ⟨rfl, S3, B3, R3⟩ := h9
          have Q3 : qS σ s3 := Q2.tr S3
          have b3 : gI s3 200 93 = gI σ 200 93 := B3.trans b2
          cases hf : factP tp o' a' with
          | error f =>
            rw [hf] at R3 yv
            have F3 : PF tp f s3 := R3
            refine mcall (c_qNotsBad G g l (d+7) s3 (pf_bad F3)) (fun r s4 h9 => ?_)
            obtain ⟨rfl, e9⟩ := h9
            subst e9
            exact And.intro (fun _ => flt s4 f _ _ Q3 b3 (yst _ yv) F3) (fun q => absurd q (pf_bad F3))
          | ok x =>
            rw [hf] at R3 yv
            obtain ⟨X3, M3⟩ := R3
            obtain ⟨-, g2, g3, g4⟩ := factP_good hle.1 hf
            refine mcall (c_qDropsNots G g l (d+5) s3 W' (C' ++ x.1) o' M3 (PE.bad0 X3) hI.2.1) (fun r s4 h9 => ?_)
            obtain ⟨rfl, S4, M4⟩ := h9
            have Q4 : qS σ s4 := Q3.tr (S4.mono rfl rfl)
            have b4 : gI s4 200 93 = gI σ 200 93 := by rw [S4.i 200 93 rfl rfl]; exact b3
            have X4 := X3.keep S4 rfl
            obtain ⟨i1, i2, i3, i4⟩ := drN_inv W' (C' ++ x.1) o' hI.2.1
            rw [List.length_append] at i4
            have h4 := hI.2.2.2
            have h3 := hI.2.2.1
            have R4 : TRc tp (0, [], C, o, a) (1, (drN W' (C' ++ x.1) o').1, (drN W' (C' ++ x.1) o').2.1, (drN W' (C' ++ x.1) o').2.2, x.2) := yst _ yv
            refine And.intro (fun q => absurd (PE.bad0 X4) q) (fun _ => ?_)
            refine mcall (c_qGoesOnTest G g l (d+4) s4 tp (drN W' (C' ++ x.1) o').1 (drN W' (C' ++ x.1) o').2.1 (drN W' (C' ++ x.1) o').2.2 x.2 ⟨X4, M4, fun v hv => hI.1 v (i3 v hv), i1, by omega, by omega⟩ (hW.keep Q4 rfl)) (fun r s5 h9 => ?_)
            obtain ⟨S5, y, R5, ⟨W5, C5, o5, a5, rfl, ha5, rfl, Y5⟩ | ⟨W5, C5, o5, a5, rfl, rfl, Y5⟩ | ⟨f, rfl, rfl, F5⟩⟩ := h9
            · have Q5 : qS σ s5 := Q4.tr (S5.mono rfl rfl)
              have b5 : gI s5 200 93 = gI σ 200 93 := by rw [S5.i 200 93 rfl rfl]; exact b4
              have := Y5.le
              refine And.intro (fun q => absurd q (by decide)) (fun _ => ?_)
              exact ih W5 C5 o5 a5 s5 _ (by omega) Q5 b5 (R4.tr R5) Y5
            · have Q5 : qS σ s5 := Q4.tr (S5.mono rfl rfl)
              have b5 : gI s5 200 93 = gI σ 200 93 := by rw [S5.i 200 93 rfl rfl]; exact b4
              refine And.intro (fun _ => ?_) (fun q => absurd rfl q)
              refine hP _ _ _ _ (And.intro (fun _ => ?_) (fun q => absurd rfl q))
              exact done W5 C5 o5 a5 s5 _ _ Q5 b5 (R4.tr R5) Y5.1 Y5.2.1
            · have Q5 : qS σ s5 := Q4.tr (S5.mono rfl rfl)
              have b5 : gI s5 200 93 = gI σ 200 93 := by rw [S5.i 200 93 rfl rfl]; exact b4
              refine And.intro (fun _ => ?_) (fun q => absurd rfl q)
              exact flt s5 f _ _ Q5 b5 (R4.tr R5) F5
  refine hP _ _ _ _ ?_
  exact key (tp.length - a + 1) [] C o a σ none (by omega) mS.rf rfl TRc.rf ⟨hX, hM, fun v hv => by simp at hv, by show 0 ≤ o; omega, hM.2.2.2.2.2.2.1, by show C.length + 0 < a; omega⟩
end QT_
