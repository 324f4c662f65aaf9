section QPT_
variable (G : CX) (g : GX) (l : Launch) (d : Nat) (σ : AS)
set_option maxHeartbeats 2000000 in
theorem c_qPartTold (tp V W C : List Nat) (o a : Nat) (h : YOkq tp V W C o a σ) (hW : Wds σ) :
    MC G g l (d+6) mX6_qPartTold [tM] σ (fun r t => r = none ∧ ySq σ t ∧ ∃ y, Rch true tp (0, W, C, o, a) y ∧ ((∃ W' C' o' a', y = (1, W', C', o', a') ∧ a < a' ∧ YOkq tp V W' C' o' a' t) ∨ (∃ f, y = yflt f ∧ YErq tp f t))) := by
  refine MC1 tX6_qPartTold [2, 40, 51, 71, 94, 109, 123] rfl okX6_qPartTold rfl rfl rfl rfl (fun P hP => ?_)
  -- a fault
  have fl94 : ∀ (f : Flt) (τ : AS) (x : Int32) (z2 z3 z4 z5 : Option AV), ySq σ τ → Rch true tp (0, W, C, o, a) (yflt f) → YErq tp f τ → P 94 [some tM, some (iv x), z2, z3, z4, z5] [] τ := by
    intro f τ x z2 z3 z4 z5 hS hR hF
    exact hP _ _ _ _ (And.intro (fun q => absurd q (pf_bad hF.1)) (fun _ => ⟨rfl, hS, _, hR, Or.inr ⟨f, rfl, hF⟩⟩))
  have fl : ∀ (f : Flt) (τ : AS) (x : Int32) (z2 z3 z4 z5 : Option AV), ySq σ τ → Rch true tp (0, W, C, o, a) (yflt f) → YErq tp f τ → P 2 [some tM, some (iv x), z2, z3, z4, z5] [] τ := by
    intro f τ x z2 z3 z4 z5 hS hR hF
    exact hP _ _ _ _ (And.intro (fun _ => fl94 f τ x z2 z3 z4 z5 hS hR hF) (fun _ => And.intro (fun _ => fl94 f τ x z2 z3 z4 z5 hS hR hF) (fun q => absurd q (pf_bad hF.1))))
  -- the part itself
  have part : ∀ (W' C' : List Nat) (o' a' : Nat) (τ : AS) (z2 z3 z4 z5 : Option AV), ySq σ τ → Rch true tp (0, W, C, o, a) (0, W', C', o', a') → a ≤ a' → YOkq tp V W' C' o' a' τ → ¬ tp[a']? = some 40 → findW tp mmL a' = none → findW tp (ofL true) a' = none → P 2 [some tM, some (iv (nI 0)), z2, z3, z4, z5] [] τ := by
    intro W' C' o' a' τ z2 z3 z4 z5 hS hR ha hO n40 nmm nof
    obtain ⟨hX, hM, hI⟩ := hO
    have hle := YOkq.le ⟨hX, hM, hI⟩
    have yst : ∀ y, (match findW tp (partL true) a' with
          | some x => ymk (dropO W' (C' ++ [x.1]) o') (skp tp (a' + x.2))
          | none => (match numF tp 0 9999 a' with
            | .ok x => ymk (dropO W' (C' ++ [1000 + x.1]) o') x.2
            | .error f => yflt f)) = y → Rch true tp (0, W, C, o, a) y := by
      intro y hy
      refine hR.tr (Rch.one ?_ Rch.rf)
      show yP true tp W' C' o' a' = y
      unfold yP
      rw [if_neg n40, nmm, nof]
      exact hy
    -- the code is told
    have cd : ∀ (τ1 : AS) (z1 z2 z3 z4 z5 : Option AV) (v b : Nat) (x : Int32), x = nI v → ySq σ τ1 → MYq V W' C' o' τ1 → PX tp (.ok b) τ1 → a' < b → Rch true tp (0, W, C, o, a) (ymk (dropO W' (C' ++ [v]) o') b) → P 123 [some tM, z1, z2, z3, z4, z5] [iv x, tM] τ1 := by
      intro τ1 z1 z2 z3 z4 z5 v b x hx S1 M1 X1 hb R1
      refine hP _ _ _ _ ?_
      refine mcall (c_qCode G g l (d+4) τ1 (W' ++ V) C' o' v M1.1 x hx (by omega)) (fun r s2 h9 => ?_)
      obtain ⟨rfl, S2, H2, M2⟩ := h9
      have X2 := X1.keep S2 rfl
      refine mcall (c_qEndsPart G g l (d+2) s2 V W' (C' ++ [v]) o' ⟨M2, by rw [S2.i 200 93 rfl rfl]; exact M1.2⟩ (PE.bad0 X2) hI.2.1) (fun r s3 h9 => ?_)
      obtain ⟨rfl, S3, H3, M3⟩ := h9
      have k1 := dropO_len W' (C' ++ [v]) o'
      have k2 := dropO_inv W' (C' ++ [v]) o' hI.2.1
      rw [List.length_append] at k1
      have k1 : (dropO W' (C' ++ [v]) o').2.1.length + (dropO W' (C' ++ [v]) o').1.length = C'.length + 1 + W'.length := k1
      have k3 := hI.2.2.1
      refine ⟨rfl, (S1.tr (ySq.ofA S2 rfl H2)).tr (ySq.ofA S3 rfl H3), _, R1, Or.inl ⟨(dropO W' (C' ++ [v]) o').1, (dropO W' (C' ++ [v]) o').2.1, (dropO W' (C' ++ [v]) o').2.2, b, rfl, by omega, X2.keep S3 rfl, M3, fun x hx => hI.1 x (k2.2.2 x hx), k2.1, by omega, by omega⟩⟩
    have at94 : P 94 [some tM, some (iv (nI 0)), z2, z3, z4, z5] [] τ := by
      refine hP _ _ _ _ (And.intro (fun _ => ?_) (fun q => absurd (PE.bad0 hX) q))
      refine mcall (c_qWordOf03 G g l (d+1) τ tp a' hX (hW.keep hS.1 rfl)) (fun r s1 h9 => ?_)
      obtain ⟨rfl, S1, E1⟩ := h9
      have Q1 : ySq σ s1 := hS.tr (ySq.of S1 rfl)
      have M1 : MYq V W' C' o' s1 := hM.keep S1 rfl rfl
      cases hp : findW tp (partL true) a' with
      | some x =>
        rcases wOf03_some hp with ⟨rfl, e9, k9⟩ | ⟨rfl, e9, k9⟩ | ⟨rfl, e9, k9⟩
        · rw [e9]
          refine And.intro (fun q9 => absurd q9 (nI_ne_m1 (by omega))) (fun _ => ?_)
          refine mcall (c_qAsksWord0 G g l d s1 tp (.ok a') E1.px (hW.keep Q1.1 rfl)) (fun r s5 h9 => ?_)
          obtain ⟨rfl, S5, X5⟩ := h9
          have X5 : PX tp (askW tp wHour a') s5 := X5
          rw [show askW tp wHour a' = .ok (skp tp (a' + 4)) from if_pos k9] at X5
          show P 109 [some tM, some (iv (nI 0)), some (iv (nI 0)), z3, z4, z5] [] s5
          refine hP _ _ _ _ (And.intro (fun q9 => absurd q9 (nI_ne_m1 (by omega))) (fun _ => ?_))
          have hsk := skp_ge tp (a' + 4)
          exact cd s5 _ _ _ _ _ 40 (skp tp (a' + 4)) _ rfl (Q1.tr (ySq.of S5 rfl)) (M1.keep S5 rfl rfl) X5 (by omega) (yst _ (by rw [hp]))
        · rw [e9]
          refine And.intro (fun q9 => absurd q9 (nI_ne_m1 (by omega))) (fun _ => ?_)
          refine mcall (c_qAsksWord1 G g l d s1 tp (.ok a') E1.px (hW.keep Q1.1 rfl)) (fun r s5 h9 => ?_)
          obtain ⟨rfl, S5, X5⟩ := h9
          have X5 : PX tp (askW tp wClock a') s5 := X5
          rw [show askW tp wClock a' = .ok (skp tp (a' + 5)) from if_pos k9] at X5
          show P 109 [some tM, some (iv (nI 0)), some (iv (nI 1)), z3, z4, z5] [] s5
          refine hP _ _ _ _ (And.intro (fun q9 => absurd q9 (nI_ne_m1 (by omega))) (fun _ => ?_))
          have hsk := skp_ge tp (a' + 5)
          exact cd s5 _ _ _ _ _ 41 (skp tp (a' + 5)) _ rfl (Q1.tr (ySq.of S5 rfl)) (M1.keep S5 rfl rfl) X5 (by omega) (yst _ (by rw [hp]))
        · rw [e9]
          refine And.intro (fun q9 => absurd q9 (nI_ne_m1 (by omega))) (fun _ => ?_)
          refine mcall (c_qAsksWord2 G g l d s1 tp (.ok a') E1.px (hW.keep Q1.1 rfl)) (fun r s5 h9 => ?_)
          obtain ⟨rfl, S5, X5⟩ := h9
          have X5 : PX tp (askW tp wDay a') s5 := X5
          rw [show askW tp wDay a' = .ok (skp tp (a' + 3)) from if_pos k9] at X5
          show P 109 [some tM, some (iv (nI 0)), some (iv (nI 2)), z3, z4, z5] [] s5
          refine hP _ _ _ _ (And.intro (fun q9 => absurd q9 (nI_ne_m1 (by omega))) (fun _ => ?_))
          have hsk := skp_ge tp (a' + 3)
          exact cd s5 _ _ _ _ _ 42 (skp tp (a' + 3)) _ rfl (Q1.tr (ySq.of S5 rfl)) (M1.keep S5 rfl rfl) X5 (by omega) (yst _ (by rw [hp]))
      | none =>
        have e9 := wOf03_none hp
        rw [e9]
        refine And.intro (fun _ => ?_) (fun q9 => absurd rfl q9)
        show P 109 [some tM, some (iv (nI 0)), some (iv (- nI 1)), z3, z4, z5] [] s1
        refine hP _ _ _ _ (And.intro (fun _ => ?_) (fun q9 => absurd rfl q9))
        refine mcall (c_number G g l (d+3) s1 tp (.ok a') E1.px _ _ 0 9999 rfl rfl (by omega) (by omega)) (fun r s5 h9 => ?_)
        obtain ⟨S5, X5, v, rfl, V5⟩ := h9
        have Q5 : ySq σ s5 := Q1.tr (ySq.of S5 rfl)
        have M5 : MYq V W' C' o' s5 := M1.keep S5 rfl rfl
        cases hn : numF tp 0 9999 a' with
        | ok z =>
          have X5 : PX tp (posOf (numF tp 0 9999 a')) s5 := X5
          rw [hn] at X5
          have hz := numF_ok hn
          have ev := V5 a' z rfl hn
          exact cd s5 _ _ _ _ _ (1000 + z.1) z.2 _ (by rw [ev, nI_add]) Q5 M5 X5 hz.2.2.1 (yst _ (by rw [hp, hn]))
        | error f =>
          have X5 : PX tp (posOf (numF tp 0 9999 a')) s5 := X5
          rw [hn] at X5
          refine hP _ _ _ _ ?_
          refine mcall (c_qCode G g l (d+4) s5 (W' ++ V) C' o' _ M5.1 _ (nI_any _) (by omega)) (fun r s6 h9 => ?_)
          obtain ⟨rfl, S6, H6, M6⟩ := h9
          have F6 : PF tp f s6 := PX.keep (S := .error f) X5 S6 rfl
          refine mcall (c_qEndsBad G g l (d+4) s6 (pf_bad F6)) (fun r s7 h9 => ?_)
          obtain ⟨rfl, rfl⟩ := h9
          refine ⟨rfl, Q5.tr (ySq.ofA S6 rfl H6), yflt f, yst _ (by rw [hp, hn]), Or.inr ⟨f, rfl, F6, _, ?_, M6.1⟩⟩
          rw [List.length_append]
          show C'.length + 1 ≤ 1600
          omega
    exact hP _ _ _ _ (And.intro (fun _ => at94) (fun q => absurd rfl q))
  -- the loop
  have key : ∀ (m : Nat) (W' C' : List Nat) (o' a' : Nat) (τ : AS) (z2 z3 z4 z5 : Option AV), tp.length - a' < m → ySq σ τ → Rch true tp (0, W, C, o, a) (0, W', C', o', a') → a ≤ a' → YOkq tp V W' C' o' a' τ → P 2 [some tM, some (iv (nI 1)), z2, z3, z4, z5] [] τ := by
    intro m
    induction m with
    | zero => intro W' C' o' a' τ z2 z3 z4 z5 hm; omega
    | succ m ih =>
      intro W' C' o' a' τ z2 z3 z4 z5 hm hS hR ha hO
      obtain ⟨hX, hM, hI⟩ := hO
      have hle := YOkq.le ⟨hX, hM, hI⟩
      obtain ⟨a9, hX9⟩ := hX
      refine hP _ _ _ _ (And.intro (fun q => absurd q (by decide)) (fun _ => And.intro (fun q => absurd hX9.2.1 q) (fun _ => ?_)))
      refine mcall (c_look G g l (d+4) τ tp a' a9 hX9) (fun r s1 h9 => ?_)
      obtain ⟨rfl, S1, O1⟩ := h9
      refine mcall (c_qWordOf36 G g l (d+1) s1 tp a' ⟨_, O1⟩ (hW.keep (hS.tr (ySq.of S1 rfl)).1 rfl)) (fun r s0 h9 => ?_)
      obtain ⟨rfl, S0, O0⟩ := h9
      have Q1 : ySq σ s0 := (hS.tr (ySq.of S1 rfl)).tr (ySq.of S0 rfl)
      have M1 : MYq V W' C' o' s0 := (hM.keep S1 rfl rfl).keep S0 rfl rfl
      have O1 : PO tp a' a' s0 := O0
      clear S1 S0
      generalize s0 = s1 at *
      -- a step of the yard
      have yst : ∀ y, yP true tp W' C' o' a' = y → Rch true tp (0, W, C, o, a) y := fun y hy => hR.tr (Rch.one hy Rch.rf)
      -- one is opened: i marks it, at b
      have opn : ∀ (v b : Nat) (t : AS) (z2 z3 z4 z5 : Option AV), ySq σ t → Rch true tp (0, W, C, o, a) (0, v :: W', C', o' + 1, skp tp (b+1)) → a' ≤ b → b < tp.length → o' < 6 → 20 ≤ v → v ≤ 62 → PX tp (.ok (skp tp (b+1))) t → MYq V (v :: W') C' (o'+1) t → P 2 [some tM, some (iv (nI 1)), z2, z3, z4, z5] [] t := by
        intro v b t z2 z3 z4 z5 Q2 R2 hb hbl ho hv hv2 X2 M2
        have hs := skp_ge tp (b+1)
        refine ih (v :: W') C' (o'+1) (skp tp (b+1)) t z2 z3 z4 z5 (by omega) Q2 R2 (by omega) ⟨X2, M2, fun u hu => ?_, ?_, by omega, ?_⟩
        · rcases List.mem_cons.mp hu with e | e
          · exact ⟨by omega, fun q9 => by cases q9⟩
          · exact hI.1 u e
        · rw [cntM_c, if_pos hv]
          have := hI.2.1
          omega
        · rw [List.length_cons]
          omega
      refine And.intro (fun q => ?_) (fun q => ?_)
      · have n40 : ¬ tp[a']? = some 40 := fun e => q ((byI_eq O1.1.1 a' 40 (by omega)).mpr e)
        -- behind min or max
        have at51 : ∀ (τ1 : AS) (b : Bool) (c w : Int32) (z5 : Option AV), findW tp mmL a' = some (if b = true then 1 else 2, 3) → ySq σ τ1 → MYq V W' C' o' τ1 → PX tp (.ok (skp tp (a' + 3))) τ1 → P 51 [some tM, some (iv (nI 1)), some (iv c), some (iv w), some (iv (bI b)), z5] [] τ1 := by
          intro τ1 b c w z5 hf Q2 M2 X2
          have hs := skp_ge tp (a' + 3)
          have yv : yP true tp W' C' o' a' = if tp[skp tp (a' + 3)]? = some 40 then (if o' = 6 then yflt (4, skp tp (a' + 3)) else (0, (20 + (if b = true then 1 else 2)) :: W', C', o' + 1, skp tp (skp tp (a' + 3) + 1))) else yflt (1, skp tp (a' + 3)) := by
            unfold yP
            rw [if_neg n40, hf]
          obtain ⟨p9, X9⟩ := X2
          refine hP _ _ _ _ ?_
          refine mcall (c_look G g l (d+4) τ1 tp (skp tp (a' + 3)) p9 X9) (fun r s2 h9 => ?_)
          obtain ⟨rfl, S2, O2⟩ := h9
          have Q3 : ySq σ s2 := Q2.tr (ySq.of S2 rfl)
          have M3 : MYq V W' C' o' s2 := M2.keep S2 rfl rfl
          have hpl := O2.2.2.2.2.1
          have hp1 := O2.1.len
          have flt : ∀ (f : Flt) (t : AS) (z3 z4 z5 : Option AV), yP true tp W' C' o' a' = yflt f → ySq σ t → PF tp f t → (∃ n, n ≤ 1600 ∧ gI t 200 89 = nI n) → P 71 [some tM, some (iv (nI 1)), some (iv c), z3, z4, z5] [] t := by
            intro f t z3 z4 z5 hy Q4 F4 N4
            refine hP _ _ _ _ ?_
            refine mcall (c_asksSign G g l (d+2) t tp (.error f) F4 _ 40 rfl (by omega) ⟨rfl, rfl⟩) (fun r s5 h9 => ?_)
            obtain ⟨rfl, S5, X5⟩ := h9
            refine fl f s5 _ _ _ _ _ (Q4.tr (ySq.of S5 rfl)) (yst _ hy) ⟨X5, ?_⟩
            rw [S5.i 200 89 rfl rfl]
            exact N4
          refine And.intro (fun q2 => ?_) (fun q2 => ?_)
          · have n41 : ¬ tp[skp tp (a' + 3)]? = some 40 := fun e => q2 ((byI_eq O2.1.1 _ 40 (by omega)).mpr e)
            refine And.intro (fun _ => ?_) (fun q3 => absurd rfl q3)
            refine hP _ _ _ _ ?_
            refine mcall (c_asksSign G g l (d+2) s2 tp (.ok (skp tp (a' + 3))) ⟨_, O2⟩ _ 40 rfl (by omega) ⟨rfl, rfl⟩) (fun r s5 h9 => ?_)
            obtain ⟨rfl, S5, X5⟩ := h9
            have X5 : PX tp (askS tp 40 (skp tp (a' + 3))) s5 := X5
            rw [show askS tp 40 (skp tp (a' + 3)) = .error (1, skp tp (a' + 3)) from if_neg n41] at X5
            refine fl _ s5 _ _ _ _ _ (Q3.tr (ySq.of S5 rfl)) (yst _ (by rw [yv, if_neg n41])) ⟨X5, C'.length, by omega, ?_⟩
            rw [S5.i 200 89 rfl rfl]
            exact M3.1.1
          · have h41 : tp[skp tp (a' + 3)]? = some 40 := (byI_eq O2.1.1 _ 40 (by omega)).mp q2
            have hbl := get_lt h41
            have op : ∀ (v : Nat) (x : Int32), x = nI v → v = 20 + (if b = true then 1 else 2) → callP G (true, g) l (d+6) mX6_qOpens [tM, iv x, iv (gI s2 200 2)] s2 (fun r t => r = none ∧ P 71 [some tM, some (iv (nI 1)), some (iv c), some (iv w), some (iv (bI b)), some (iv (gI s2 200 2))] [] t) NoX := by
              intro v x hx hv
              have hv9 : 21 ≤ v ∧ v ≤ 22 := by rw [hv]; cases b <;> simp
              refine mcall (c_qOpens G g l (d+3) s2 tp (W' ++ V) C' o' (skp tp (a' + 3)) O2 M3.1 x _ v (skp tp (a' + 3)) hx O2.2.2.1 (by omega) (by omega) (by omega)) (fun r s3 h9 => ?_)
              obtain ⟨rfl, S3, h9⟩ := h9
              have Q4 : ySq σ s3 := Q3.tr (ySq.ofW S3 rfl)
              refine ⟨rfl, ?_⟩
              rcases h9 with ⟨ho, F3, M4⟩ | ⟨ho, O3, M4⟩
              · exact flt (4, skp tp (a' + 3)) s3 _ _ _ (by rw [yv, if_pos h41, if_pos ho]) Q4 F3 ⟨C'.length, by omega, M4.1⟩
              · refine hP _ _ _ _ ?_
                refine mcall (c_asksSign G g l (d+2) s3 tp (.ok (skp tp (a' + 3))) ⟨_, O3⟩ _ 40 rfl (by omega) ⟨rfl, rfl⟩) (fun r s5 h9 => ?_)
                obtain ⟨rfl, S5, X5⟩ := h9
                have X5 : PX tp (askS tp 40 (skp tp (a' + 3))) s5 := X5
                rw [show askS tp 40 (skp tp (a' + 3)) = .ok (skp tp (skp tp (a' + 3) + 1)) from if_pos h41] at X5
                refine opn v (skp tp (a' + 3)) s5 _ _ _ _ (Q4.tr (ySq.of S5 rfl)) (yst _ (by rw [yv, if_pos h41, if_neg (by omega), hv])) (by omega) hbl ho (by omega) (by omega) X5 ⟨M4.keep S5 rfl, ?_⟩
                rw [S5.i 200 93 rfl rfl, S3.i 200 93 rfl rfl]
                exact M3.2
            refine And.intro (fun q3 => absurd (show gI s2 200 2 = - nI 1 from q3) (by rw [O2.2.2.1]; exact nI_ne_m1 (by omega))) (fun _ => ?_)
            cases b with
            | true =>
              refine And.intro (fun q4 => absurd q4 (by decide)) (fun _ => ?_)
              obtain ⟨N9, X9, h1, h2, h3⟩ := op 21 (nI 21) rfl rfl
              exact ⟨N9, X9, h1, fun r s' h => by obtain ⟨e9, h8⟩ := h2 r s' h; subst e9; exact h8, fun s' h => (h3 s' h).elim⟩
            | false =>
              refine And.intro (fun _ => ?_) (fun q4 => absurd rfl q4)
              obtain ⟨N9, X9, h1, h2, h3⟩ := op 22 (nI 22) rfl rfl
              exact ⟨N9, X9, h1, fun r s' h => by obtain ⟨e9, h8⟩ := h2 r s' h; subst e9; exact h8, fun s' h => (h3 s' h).elim⟩
        have at40 : ∀ (τ1 : AS) (c w : Int32) (z4 z5 : Option AV), ySq σ τ1 → MYq V W' C' o' τ1 → PE tp (.ok a') τ1 → (kw tp wMin a' = true ∨ kw tp wMax a' = true) → P 40 [some tM, some (iv (nI 1)), some (iv c), some (iv w), z4, z5] [] τ1 := by
          intro τ1 c w z4 z5 Q2 M2 E2 hk
          refine hP _ _ _ _ ?_
          refine mcall (c_takes_256 G g l (d+2) τ1 tp (.ok a') E2.px ((hW.keep Q2.1 rfl).2 10 wMin rfl)) (fun r s2 h9 => ?_)
          obtain ⟨rfl, S2, X2, E3⟩ := h9
          have Q3 : ySq σ s2 := Q2.tr (ySq.of S2 rfl)
          have M3 : MYq V W' C' o' s2 := M2.keep S2 rfl rfl
          cases k1 : kw tp wMin a' with
          | true =>
            rw [show kwS tp wMin (.ok a') = true from k1]
            rw [show takS tp wMin (.ok a') = .ok (skp tp (a' + 3)) from if_pos k1] at X2
            exact And.intro (fun _ => at51 s2 true _ _ _ (by rw [findW_mmL, if_pos k1]; rfl) Q3 M3 X2) (fun q => absurd q (by decide))
          | false =>
            rw [show kwS tp wMin (.ok a') = false from k1]
            have k2 : kw tp wMax a' = true := by rcases hk with e | e; rw [k1] at e; cases e; exact e
            have E3 : PE tp (.ok a') s2 := E3 k1
            refine And.intro (fun q => absurd rfl q) (fun _ => ?_)
            refine mcall (c_asks_257 G g l (d+1) s2 tp (.ok a') E3.px ((hW.keep Q3.1 rfl).2 11 wMax rfl)) (fun r s3 h9 => ?_)
            obtain ⟨rfl, S3, X3⟩ := h9
            have X3 : PX tp (askW tp wMax a') s3 := X3
            rw [show askW tp wMax a' = .ok (skp tp (a' + 3)) from if_pos k2] at X3
            exact at51 s3 false _ _ _ (by rw [findW_mmL, k1, if_neg (by decide), if_pos k2]; rfl) (Q3.tr (ySq.of S3 rfl)) (M3.keep S3 rfl rfl) X3
        refine mcall (c_isHere_256 G g l (d+3) s1 tp (.ok a') ⟨_, O1⟩ ((hW.keep Q1.1 rfl).2 10 wMin rfl)) (fun r s2 h9 => ?_)
        obtain ⟨rfl, S2, E2⟩ := h9
        have Q2 : ySq σ s2 := Q1.tr (ySq.of S2 rfl)
        have M2 : MYq V W' C' o' s2 := M1.keep S2 rfl rfl
        cases k1 : kw tp wMin a' with
        | true =>
          rw [show kwS tp wMin (.ok a') = true from k1]
          exact And.intro (fun _ => at40 s2 _ _ _ _ Q2 M2 E2 (Or.inl k1)) (fun q => absurd q (by decide))
        | false =>
          rw [show kwS tp wMin (.ok a') = false from k1]
          refine And.intro (fun q => absurd rfl q) (fun _ => ?_)
          refine mcall (c_isHere_257 G g l (d+3) s2 tp (.ok a') E2.px ((hW.keep Q2.1 rfl).2 11 wMax rfl)) (fun r s3 h9 => ?_)
          obtain ⟨rfl, S3, E3⟩ := h9
          have Q3 : ySq σ s3 := Q2.tr (ySq.of S3 rfl)
          have M3 : MYq V W' C' o' s3 := M2.keep S3 rfl rfl
          cases k2 : kw tp wMax a' with
          | true =>
            rw [show kwS tp wMax (.ok a') = true from k2]
            exact And.intro (fun q => absurd q (by decide)) (fun _ => at40 s3 _ _ _ _ Q3 M3 E3 (Or.inr k2))
          | false =>
            rw [show kwS tp wMax (.ok a') = false from k2]
            refine And.intro (fun _ => ?_) (fun q => absurd rfl q)
            have nmm : findW tp mmL a' = none := by rw [findW_mmL, k1, if_neg (by decide), k2, if_neg (by decide)]
            cases hof : findW tp (ofL true) a' with
            | none =>
              refine And.intro (fun _ => ?_) (fun q9 => absurd (wOf36_none hof) q9)
              exact part W' C' o' a' s3 _ _ _ _ Q3 hR ha ⟨E3.px, M3, hI⟩ n40 nmm hof
            | some x =>
              have O3 : PO tp a' a' s3 := E3
              have yv : yP true tp W' C' o' a' = if o' = 6 then yflt (4, a') else (0, x.1 :: W', C', o' + 1, skp tp (a' + x.2)) := by
                unfold yP
                rw [if_neg n40, nmm, hof]
              rcases wOf36_some hof with ⟨rfl, e9, k9⟩ | ⟨rfl, e9, k9⟩ | ⟨rfl, e9, k9⟩
              · rw [e9]
                refine And.intro (fun q9 => absurd q9 (nI_ne_m1 (by omega))) (fun _ => ?_)
                refine mcall (c_qOpens G g l (d+3) s3 tp (W' ++ V) C' o' a' O3 M3.1 _ _ 60 a' rfl O3.2.2.1 (by omega) (by omega) (by omega)) (fun r s4 h9 => ?_)
                obtain ⟨rfl, S4, h9⟩ := h9
                have Q4 : ySq σ s4 := Q3.tr (ySq.ofW S4 rfl)
                rcases h9 with ⟨ho, F4, M4⟩ | ⟨ho, O4, M4⟩
                · refine mcall (c_qAsksWord3 G g l d s4 tp (.error (4, a')) F4 (hW.keep Q4.1 rfl)) (fun r s5 h9 => ?_)
                  obtain ⟨rfl, S5, F5⟩ := h9
                  refine fl (4, a') _ _ _ _ _ _ (Q4.tr (ySq.of S5 rfl)) (yst _ (by rw [yv, if_pos ho])) ⟨F5, C'.length, by omega, ?_⟩
                  rw [S5.i 200 89 rfl rfl]
                  exact M4.1
                · refine mcall (c_qAsksWord3 G g l d s4 tp (.ok a') ⟨_, O4⟩ (hW.keep Q4.1 rfl)) (fun r s5 h9 => ?_)
                  obtain ⟨rfl, S5, X5⟩ := h9
                  have X5 : PX tp (askW tp wWidth a') s5 := X5
                  rw [show askW tp wWidth a' = .ok (skp tp (a' + 5)) from if_pos k9] at X5
                  have hkl : a' + 5 ≤ tp.length := kwL k9
                  refine opn 60 (a' + 4) s5 _ _ _ _ (Q4.tr (ySq.of S5 rfl)) (yst _ (by rw [yv, if_neg (by omega)]; rfl)) (by omega) (by omega) ho (by omega) (by omega) X5 ⟨M4.keep S5 rfl, ?_⟩
                  rw [S5.i 200 93 rfl rfl, S4.i 200 93 rfl rfl]
                  exact M3.2
              · rw [e9]
                refine And.intro (fun q9 => absurd q9 (nI_ne_m1 (by omega))) (fun _ => ?_)
                refine mcall (c_qOpens G g l (d+3) s3 tp (W' ++ V) C' o' a' O3 M3.1 _ _ 61 a' rfl O3.2.2.1 (by omega) (by omega) (by omega)) (fun r s4 h9 => ?_)
                obtain ⟨rfl, S4, h9⟩ := h9
                have Q4 : ySq σ s4 := Q3.tr (ySq.ofW S4 rfl)
                rcases h9 with ⟨ho, F4, M4⟩ | ⟨ho, O4, M4⟩
                · refine mcall (c_qAsksWord4 G g l d s4 tp (.error (4, a')) F4 (hW.keep Q4.1 rfl)) (fun r s5 h9 => ?_)
                  obtain ⟨rfl, S5, F5⟩ := h9
                  refine fl (4, a') _ _ _ _ _ _ (Q4.tr (ySq.of S5 rfl)) (yst _ (by rw [yv, if_pos ho])) ⟨F5, C'.length, by omega, ?_⟩
                  rw [S5.i 200 89 rfl rfl]
                  exact M4.1
                · refine mcall (c_qAsksWord4 G g l d s4 tp (.ok a') ⟨_, O4⟩ (hW.keep Q4.1 rfl)) (fun r s5 h9 => ?_)
                  obtain ⟨rfl, S5, X5⟩ := h9
                  have X5 : PX tp (askW tp wTide a') s5 := X5
                  rw [show askW tp wTide a' = .ok (skp tp (a' + 4)) from if_pos k9] at X5
                  have hkl : a' + 4 ≤ tp.length := kwL k9
                  refine opn 61 (a' + 3) s5 _ _ _ _ (Q4.tr (ySq.of S5 rfl)) (yst _ (by rw [yv, if_neg (by omega)]; rfl)) (by omega) (by omega) ho (by omega) (by omega) X5 ⟨M4.keep S5 rfl, ?_⟩
                  rw [S5.i 200 93 rfl rfl, S4.i 200 93 rfl rfl]
                  exact M3.2
              · rw [e9]
                refine And.intro (fun q9 => absurd q9 (nI_ne_m1 (by omega))) (fun _ => ?_)
                refine mcall (c_qOpens G g l (d+3) s3 tp (W' ++ V) C' o' a' O3 M3.1 _ _ 62 a' rfl O3.2.2.1 (by omega) (by omega) (by omega)) (fun r s4 h9 => ?_)
                obtain ⟨rfl, S4, h9⟩ := h9
                have Q4 : ySq σ s4 := Q3.tr (ySq.ofW S4 rfl)
                rcases h9 with ⟨ho, F4, M4⟩ | ⟨ho, O4, M4⟩
                · refine mcall (c_qAsksWord5 G g l d s4 tp (.error (4, a')) F4 (hW.keep Q4.1 rfl)) (fun r s5 h9 => ?_)
                  obtain ⟨rfl, S5, F5⟩ := h9
                  refine fl (4, a') _ _ _ _ _ _ (Q4.tr (ySq.of S5 rfl)) (yst _ (by rw [yv, if_pos ho])) ⟨F5, C'.length, by omega, ?_⟩
                  rw [S5.i 200 89 rfl rfl]
                  exact M4.1
                · refine mcall (c_qAsksWord5 G g l d s4 tp (.ok a') ⟨_, O4⟩ (hW.keep Q4.1 rfl)) (fun r s5 h9 => ?_)
                  obtain ⟨rfl, S5, X5⟩ := h9
                  have X5 : PX tp (askW tp wPasses a') s5 := X5
                  rw [show askW tp wPasses a' = .ok (skp tp (a' + 6)) from if_pos k9] at X5
                  have hkl : a' + 6 ≤ tp.length := kwL k9
                  refine opn 62 (a' + 5) s5 _ _ _ _ (Q4.tr (ySq.of S5 rfl)) (yst _ (by rw [yv, if_neg (by omega)]; rfl)) (by omega) (by omega) ho (by omega) (by omega) X5 ⟨M4.keep S5 rfl, ?_⟩
                  rw [S5.i 200 93 rfl rfl, S4.i 200 93 rfl rfl]
                  exact M3.2
      · have h40 : tp[a']? = some 40 := (byI_eq O1.1.1 a' 40 (by omega)).mp q
        have hbl := get_lt h40
        refine mcall (c_qOpens G g l (d+3) s1 tp (W' ++ V) C' o' a' O1 M1.1 _ _ 20 a' rfl O1.2.2.1 (by omega) (by omega) (by omega)) (fun r s3 h9 => ?_)
        obtain ⟨rfl, S3, h9⟩ := h9
        have Q4 : ySq σ s3 := Q1.tr (ySq.ofW S3 rfl)
        have S5 : mS [2] [] s3 (sI s3 200 2 (gI s3 200 2 + nI 1)) := mS.rf.f rfl
        rcases h9 with ⟨ho, F3, M4⟩ | ⟨ho, O3, M4⟩
        · refine fl (4, a') _ _ _ _ _ _ (Q4.tr (ySq.of S5 rfl)) (yst _ ?_) ⟨F3.inc, C'.length, by omega, ?_⟩
          · unfold yP; rw [if_pos h40, if_pos ho]
          · rw [S5.i 200 89 rfl rfl]; exact M4.1
        · refine opn 20 a' _ _ _ _ _ (Q4.tr (ySq.of S5 rfl)) (yst _ ?_) (Nat.le_refl _) hbl ho (by omega) (by omega) (O3.inc h40 ⟨rfl, rfl⟩ rfl) ⟨M4.keep S5 rfl, ?_⟩
          · unfold yP; rw [if_pos h40, if_neg (by omega)]
          · rw [S5.i 200 93 rfl rfl, S3.i 200 93 rfl rfl]
            exact M1.2
  exact hP _ _ _ _ (key (tp.length - a + 1) W C o a σ none none none none (by omega) ySq.rf Rch.rf (Nat.le_refl _) h)
end QPT_

