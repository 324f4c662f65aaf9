theorem nI_any (x : Int32) : x = nI x.toBitVec.toNat := by
  apply Int32.toBitVec_inj.mp
  show x.toBitVec = BitVec.ofNat 32 x.toBitVec.toNat
  simp
theorem findW_mmL (tp : List Nat) (a : Nat) : findW tp mmL a = if kw tp wMin a = true then some (1, 3) else if kw tp wMax a = true then some (2, 3) else none := rfl
theorem findW_ptL (tp : List Nat) (a : Nat) : findW tp (partL false) a = if kw tp wTide a = true then some (7, 4) else if kw tp wRound a = true then some (8, 5) else if kw tp wClock a = true then some (9, 5) else if kw tp wDay a = true then some (10, 3) else none := rfl
theorem kwL {tp w : List Nat} {a : Nat} (h : kw tp w a = true) : a + w.length ≤ tp.length := by
  have h1 := kw_end h
  have h2 : wEn tp a ≤ tp.length := endE_le isL (Nat.le_of_lt (kw_lt h))
  omega
theorem PE.bad0 {tp : List Nat} {a : Nat} {σ : AS} (h : PX tp (.ok a) σ) : gI σ 200 5 = nI 0 := by obtain ⟨a', h⟩ := h; exact h.2.1
section OPT_
variable (G : CX) (g : GX) (l : Launch) (d : Nat) (σ : AS)
set_option maxHeartbeats 2000000 in
theorem c_onePart (tp V W C : List Nat) (o a : Nat) (h : YOkt tp V W C o a σ) (hW : Wds σ) :
    MC G g l (d+5) mX6_onePart [tM] σ (fun r t => r = none ∧ ySt σ t ∧ ∃ y, Rch false tp (0, W, C, o, a) y ∧ ((∃ W' C' o' a', y = (1, W', C', o', a') ∧ a < a' ∧ YOkt tp V W' C' o' a' t) ∨ (∃ f, y = yflt f ∧ YErt tp f t))) := by
  refine MC1 tX6_onePart [2, 35, 46, 66, 73, 106, 119] rfl okX6_onePart rfl rfl rfl rfl (fun P hP => ?_)
  -- a fault
  have fl73 : ∀ (f : Flt) (τ : AS) (x : Int32) (z2 z3 z4 : Option AV), ySt σ τ → Rch false tp (0, W, C, o, a) (yflt f) → YErt tp f τ → P 73 [some tM, some (iv x), z2, z3, z4] [] τ := by
    intro f τ x z2 z3 z4 hS hR hF
    exact hP _ _ _ _ (And.intro (fun q => absurd q (pf_bad hF.1)) (fun _ => ⟨rfl, hS, _, hR, Or.inr ⟨f, rfl, hF⟩⟩))
  have fl : ∀ (f : Flt) (τ : AS) (x : Int32) (z2 z3 z4 : Option AV), ySt σ τ → Rch false tp (0, W, C, o, a) (yflt f) → YErt tp f τ → P 2 [some tM, some (iv x), z2, z3, z4] [] τ := by
    intro f τ x z2 z3 z4 hS hR hF
    exact hP _ _ _ _ (And.intro (fun _ => fl73 f τ x z2 z3 z4 hS hR hF) (fun _ => And.intro (fun _ => fl73 f τ x z2 z3 z4 hS hR hF) (fun q => absurd q (pf_bad hF.1))))
  -- the part itself
  have part : ∀ (W' C' : List Nat) (o' a' : Nat) (τ : AS) (z2 z3 z4 : Option AV), ySt σ τ → Rch false tp (0, W, C, o, a) (0, W', C', o', a') → a ≤ a' → YOkt tp V W' C' o' a' τ → ¬ tp[a']? = some 40 → findW tp mmL a' = none → P 2 [some tM, some (iv (nI 0)), z2, z3, z4] [] τ := by
    intro W' C' o' a' τ z2 z3 z4 hS hR ha hO n40 nmm
    obtain ⟨hX, hM, hI⟩ := hO
    have hle := YOkt.le ⟨hX, hM, hI⟩
    have hlow : ∀ v ∈ W', v < 60 := fun v hv => (hI.1 v hv).2 rfl
    have yst : ∀ y, (match findW tp (partL false) a' with
          | some x => ymk (dropO W' (C' ++ [x.1]) o') (skp tp (a' + x.2))
          | none => (match numF tp 0 9999 a' with
            | .ok x => ymk (dropO W' (C' ++ [1000 + x.1]) o') x.2
            | .error f => yflt f)) = y → Rch false tp (0, W, C, o, a) y := by
      intro y hy
      refine hR.tr (Rch.one ?_ Rch.rf)
      show yP false tp W' C' o' a' = y
      unfold yP
      rw [if_neg n40, nmm]
      exact hy
    -- the code is told
    have cd : ∀ (τ1 : AS) (z1 z2 z3 z4 : Option AV) (v b : Nat) (x : Int32), x = nI v → ySt σ τ1 → MYt V W' C' o' τ1 → PX tp (.ok b) τ1 → a' < b → Rch false tp (0, W, C, o, a) (1, W', C' ++ [v], o', b) → P 119 [some tM, z1, z2, z3, z4] [iv x, tM] τ1 := by
      intro τ1 z1 z2 z3 z4 v b x hx S1 M1 X1 hb R1
      refine hP _ _ _ _ ?_
      refine mcall (c_code G g l (d+3) τ1 (W' ++ V) C' o' v M1.1 x hx (by omega)) (fun r s2 h9 => ?_)
      obtain ⟨rfl, S2, H2, M2⟩ := h9
      refine ⟨rfl, S1.tr (ySt.ofA S2 rfl H2), _, R1, Or.inl ⟨W', C' ++ [v], o', b, rfl, by omega, X1.keep S2 rfl, ⟨M2, by rw [S2.i 200 41 rfl rfl]; exact M1.2⟩, ⟨hI.1, hI.2.1, hI.2.2.1, ?_⟩⟩⟩
      rw [List.length_append]
      show C'.length + 1 + _ < b
      omega
    have wd : ∀ (τ1 : AS) (y1 : Int32) (z2 z3 z4 : Option AV) (v n : Nat), (v = 7 ∨ v = 8 ∨ v = 9 ∨ v = 10) → 1 ≤ n → findW tp (partL false) a' = some (v, n) → ySt σ τ1 → MYt V W' C' o' τ1 → PX tp (.ok (skp tp (a' + n))) τ1 → P 106 [some tM, some (iv y1), z2, z3, z4] [iv (nI v)] τ1 := by
      intro τ1 y1 z2 z3 z4 v n hv hn hf S1 M1 X1
      refine hP _ _ _ _ (And.intro (fun q => absurd q (nI_ne_m1 (by omega))) (fun _ => ?_))
      refine cd τ1 _ _ _ _ v (skp tp (a' + n)) _ rfl S1 M1 X1 (by have := skp_ge tp (a' + n); omega) (yst _ ?_)
      rw [hf]
      show ymk (dropO W' (C' ++ [v]) o') (skp tp (a' + n)) = _
      rw [dropO_low hlow]
      rfl
    have at73 : P 73 [some tM, some (iv (nI 0)), z2, z3, z4] [] τ := by
      refine hP _ _ _ _ (And.intro (fun _ => ?_) (fun q => absurd (PE.bad0 hX) q))
      refine mcall (c_takes_215 G g l (d+1) τ tp (.ok a') hX ((hW.keep hS.1 rfl).1 12 wTide rfl)) (fun r s1 h9 => ?_)
      obtain ⟨rfl, S1, X1, E1⟩ := h9
      have Q1 : ySt σ s1 := hS.tr (ySt.of S1 rfl)
      have M1 : MYt V W' C' o' s1 := hM.keep S1 rfl rfl
      have fw := findW_ptL tp a'
      cases k1 : kw tp wTide a' with
      | true =>
        rw [show kwS tp wTide (.ok a') = true from k1]
        refine And.intro (fun q => absurd q (by decide)) (fun _ => ?_)
        rw [show takS tp wTide (.ok a') = .ok (skp tp (a' + 4)) from if_pos k1] at X1
        exact wd s1 _ _ _ _ 7 4 (by omega) (by omega) (by rw [fw, if_pos k1]) Q1 M1 X1
      | false =>
        rw [show kwS tp wTide (.ok a') = false from k1]
        have E1 : PE tp (.ok a') s1 := E1 k1
        refine And.intro (fun _ => ?_) (fun q => absurd rfl q)
        refine mcall (c_takes_208 G g l (d+1) s1 tp (.ok a') E1.px ((hW.keep Q1.1 rfl).1 5 wRound rfl)) (fun r s2 h9 => ?_)
        obtain ⟨rfl, S2, X2, E2⟩ := h9
        have Q2 : ySt σ s2 := Q1.tr (ySt.of S2 rfl)
        have M2 : MYt V W' C' o' s2 := M1.keep S2 rfl rfl
        cases k2 : kw tp wRound a' with
        | true =>
          rw [show kwS tp wRound (.ok a') = true from k2]
          refine And.intro (fun q => absurd q (by decide)) (fun _ => ?_)
          rw [show takS tp wRound (.ok a') = .ok (skp tp (a' + 5)) from if_pos k2] at X2
          exact wd s2 _ _ _ _ 8 5 (by omega) (by omega) (by rw [fw, k1, if_neg (by decide), if_pos k2]) Q2 M2 X2
        | false =>
          rw [show kwS tp wRound (.ok a') = false from k2]
          have E2 : PE tp (.ok a') s2 := E2 k2
          refine And.intro (fun _ => ?_) (fun q => absurd rfl q)
          refine mcall (c_takes_216 G g l (d+1) s2 tp (.ok a') E2.px ((hW.keep Q2.1 rfl).1 13 wClock rfl)) (fun r s3 h9 => ?_)
          obtain ⟨rfl, S3, X3, E3⟩ := h9
          have Q3 : ySt σ s3 := Q2.tr (ySt.of S3 rfl)
          have M3 : MYt V W' C' o' s3 := M2.keep S3 rfl rfl
          cases k3 : kw tp wClock a' with
          | true =>
            rw [show kwS tp wClock (.ok a') = true from k3]
            refine And.intro (fun q => absurd q (by decide)) (fun _ => ?_)
            rw [show takS tp wClock (.ok a') = .ok (skp tp (a' + 5)) from if_pos k3] at X3
            exact wd s3 _ _ _ _ 9 5 (by omega) (by omega) (by rw [fw, k1, if_neg (by decide), k2, if_neg (by decide), if_pos k3]) Q3 M3 X3
          | false =>
            rw [show kwS tp wClock (.ok a') = false from k3]
            have E3 : PE tp (.ok a') s3 := E3 k3
            refine And.intro (fun _ => ?_) (fun q => absurd rfl q)
            refine mcall (c_takes_217 G g l (d+1) s3 tp (.ok a') E3.px ((hW.keep Q3.1 rfl).1 14 wDay rfl)) (fun r s4 h9 => ?_)
            obtain ⟨rfl, S4, X4, E4⟩ := h9
            have Q4 : ySt σ s4 := Q3.tr (ySt.of S4 rfl)
            have M4 : MYt V W' C' o' s4 := M3.keep S4 rfl rfl
            cases k4 : kw tp wDay a' with
            | true =>
              rw [show kwS tp wDay (.ok a') = true from k4]
              refine And.intro (fun q => absurd q (by decide)) (fun _ => ?_)
              rw [show takS tp wDay (.ok a') = .ok (skp tp (a' + 3)) from if_pos k4] at X4
              exact wd s4 _ _ _ _ 10 3 (by omega) (by omega) (by rw [fw, k1, if_neg (by decide), k2, if_neg (by decide), k3, if_neg (by decide), if_pos k4]) Q4 M4 X4
            | false =>
              rw [show kwS tp wDay (.ok a') = false from k4]
              have E4 : PE tp (.ok a') s4 := E4 k4
              have fn : findW tp (partL false) a' = none := by rw [fw, k1, if_neg (by decide), k2, if_neg (by decide), k3, if_neg (by decide), k4, if_neg (by decide)]
              refine And.intro (fun _ => ?_) (fun q => absurd rfl q)
              refine hP _ _ _ _ (And.intro (fun _ => ?_) (fun q => absurd rfl q))
              refine mcall (c_number G g l (d+2) s4 tp (.ok a') E4.px _ _ 0 9999 rfl rfl (by omega) (by omega)) (fun r s5 h9 => ?_)
              obtain ⟨S5, X5, v, rfl, V5⟩ := h9
              have Q5 : ySt σ s5 := Q4.tr (ySt.of S5 rfl)
              have M5 : MYt V W' C' o' s5 := M4.keep S5 rfl rfl
              cases hn : numF tp 0 9999 a' with
              | ok z =>
                have X5 : PX tp (posOf (numF tp 0 9999 a')) s5 := X5
                rw [hn] at X5
                have hz := numF_ok hn
                have ev := V5 a' z rfl hn
                refine cd s5 _ _ _ _ (1000 + z.1) z.2 _ (by rw [ev, nI_add]) Q5 M5 X5 hz.2.2.1 (yst _ ?_)
                rw [fn, hn]
                show ymk (dropO W' (C' ++ [1000 + z.1]) o') z.2 = _
                rw [dropO_low hlow]
                rfl
              | error f =>
                have X5 : PX tp (posOf (numF tp 0 9999 a')) s5 := X5
                rw [hn] at X5
                refine hP _ _ _ _ ?_
                refine mcall (c_code G g l (d+3) s5 (W' ++ V) C' o' _ M5.1 _ (nI_any _) (by omega)) (fun r s6 h9 => ?_)
                obtain ⟨rfl, S6, H6, M6⟩ := h9
                refine ⟨rfl, Q5.tr (ySt.ofA S6 rfl H6), yflt f, yst _ (by rw [fn, hn]), Or.inr ⟨f, rfl, PX.keep (S := .error f) X5 S6 rfl, _, ?_, M6.1⟩⟩
                rw [List.length_append]
                show C'.length + 1 ≤ 1600
                omega
    exact hP _ _ _ _ (And.intro (fun _ => at73) (fun q => absurd rfl q))
  -- the loop
  have key : ∀ (m : Nat) (W' C' : List Nat) (o' a' : Nat) (τ : AS) (z2 z3 z4 : Option AV), tp.length - a' < m → ySt σ τ → Rch false tp (0, W, C, o, a) (0, W', C', o', a') → a ≤ a' → YOkt tp V W' C' o' a' τ → P 2 [some tM, some (iv (nI 1)), z2, z3, z4] [] τ := by
    intro m
    induction m with
    | zero => intro W' C' o' a' τ z2 z3 z4 hm; omega
    | succ m ih =>
      intro W' C' o' a' τ z2 z3 z4 hm hS hR ha hO
      obtain ⟨hX, hM, hI⟩ := hO
      have hle := YOkt.le ⟨hX, hM, hI⟩
      obtain ⟨a9, hX9⟩ := hX
      refine hP _ _ _ _ (And.intro (fun q => absurd q (by decide)) (fun _ => And.intro (fun q => absurd hX9.2.1 q) (fun _ => ?_)))
      refine mcall (c_look G g l (d+3) τ tp a' a9 hX9) (fun r s1 h9 => ?_)
      obtain ⟨rfl, S1, O1⟩ := h9
      have Q1 : ySt σ s1 := hS.tr (ySt.of S1 rfl)
      have M1 : MYt V W' C' o' s1 := hM.keep S1 rfl rfl
      -- a step of the yard
      have yst : ∀ y, yP false tp W' C' o' a' = y → Rch false tp (0, W, C, o, a) y := fun y hy => hR.tr (Rch.one hy Rch.rf)
      -- one is opened: i marks it, at b
      have opn : ∀ (v b : Nat) (t : AS) (z2 z3 z4 : Option AV), ySt σ t → Rch false tp (0, W, C, o, a) (0, v :: W', C', o' + 1, skp tp (b+1)) → a' ≤ b → b < tp.length → o' < 6 → 20 ≤ v → v ≤ 24 → PX tp (.ok (skp tp (b+1))) t → MYt V (v :: W') C' (o'+1) t → P 2 [some tM, some (iv (nI 1)), z2, z3, z4] [] t := by
        intro v b t z2 z3 z4 Q2 R2 hb hbl ho hv hv2 X2 M2
        have hs := skp_ge tp (b+1)
        refine ih (v :: W') C' (o'+1) (skp tp (b+1)) t z2 z3 z4 (by omega) Q2 R2 (by omega) ⟨X2, M2, fun u hu => ?_, ?_, by omega, ?_⟩
        · rcases List.mem_cons.mp hu with e | e
          · exact ⟨by omega, fun _ => by omega⟩
          · exact hI.1 u e
        · rw [cntM_c, if_pos hv]
          have := hI.2.1
          omega
        · rw [List.length_cons]
          omega
      refine And.intro (fun q => ?_) (fun q => ?_)
      · have n40 : ¬ tp[a']? = some 40 := fun e => q ((byI_eq O1.1.1 a' 40 (by omega)).mpr e)
        -- behind min or max
        have at46 : ∀ (τ1 : AS) (b : Bool) (c : Int32) (z4 : Option AV), findW tp mmL a' = some (if b = true then 1 else 2, 3) → ySt σ τ1 → MYt V W' C' o' τ1 → PX tp (.ok (skp tp (a' + 3))) τ1 → P 46 [some tM, some (iv (nI 1)), some (iv c), some (iv (bI b)), z4] [] τ1 := by
          intro τ1 b c z4 hf Q2 M2 X2
          have hs := skp_ge tp (a' + 3)
          have yv : yP false tp W' C' o' a' = if tp[skp tp (a' + 3)]? = some 40 then (if o' = 6 then yflt (4, skp tp (a' + 3)) else (0, (20 + (if b = true then 1 else 2)) :: W', C', o' + 1, skp tp (skp tp (a' + 3) + 1))) else yflt (1, skp tp (a' + 3)) := by
            unfold yP
            rw [if_neg n40, hf]
          obtain ⟨p9, X9⟩ := X2
          refine hP _ _ _ _ ?_
          refine mcall (c_look G g l (d+3) τ1 tp (skp tp (a' + 3)) p9 X9) (fun r s2 h9 => ?_)
          obtain ⟨rfl, S2, O2⟩ := h9
          have Q3 : ySt σ s2 := Q2.tr (ySt.of S2 rfl)
          have M3 : MYt V W' C' o' s2 := M2.keep S2 rfl rfl
          have hpl := O2.2.2.2.2.1
          have hp1 := O2.1.len
          have flt : ∀ (f : Flt) (t : AS) (z3 z4 : Option AV), yP false tp W' C' o' a' = yflt f → ySt σ t → PF tp f t → (∃ n, n ≤ 1600 ∧ gI t 200 35 = nI n) → P 66 [some tM, some (iv (nI 1)), some (iv c), z3, z4] [] t := by
            intro f t z3 z4 hy Q4 F4 N4
            refine hP _ _ _ _ ?_
            refine mcall (c_asksSign G g l (d+1) t tp (.error f) F4 _ 40 rfl (by omega) ⟨rfl, rfl⟩) (fun r s5 h9 => ?_)
            obtain ⟨rfl, S5, X5⟩ := h9
            refine fl f s5 _ _ _ _ (Q4.tr (ySt.of S5 rfl)) (yst _ hy) ⟨X5, ?_⟩
            rw [S5.i 200 35 rfl rfl]
            exact N4
          refine And.intro (fun q2 => ?_) (fun q2 => ?_)
          · have n41 : ¬ tp[skp tp (a' + 3)]? = some 40 := fun e => q2 ((byI_eq O2.1.1 _ 40 (by omega)).mpr e)
            refine And.intro (fun _ => ?_) (fun q3 => absurd rfl q3)
            refine hP _ _ _ _ ?_
            refine mcall (c_asksSign G g l (d+1) s2 tp (.ok (skp tp (a' + 3))) ⟨_, O2⟩ _ 40 rfl (by omega) ⟨rfl, rfl⟩) (fun r s5 h9 => ?_)
            obtain ⟨rfl, S5, X5⟩ := h9
            have X5 : PX tp (askS tp 40 (skp tp (a' + 3))) s5 := X5
            rw [show askS tp 40 (skp tp (a' + 3)) = .error (1, skp tp (a' + 3)) from if_neg n41] at X5
            refine fl _ s5 _ _ _ _ (Q3.tr (ySt.of S5 rfl)) (yst _ (by rw [yv, if_neg n41])) ⟨X5, C'.length, by omega, ?_⟩
            rw [S5.i 200 35 rfl rfl]
            exact M3.1.1
          · have h41 : tp[skp tp (a' + 3)]? = some 40 := (byI_eq O2.1.1 _ 40 (by omega)).mp q2
            have hbl := get_lt h41
            have op : ∀ (v : Nat) (x : Int32), x = nI v → v = 20 + (if b = true then 1 else 2) → callP G (true, g) l (d+5) mX6_opens [tM, iv x, iv (gI s2 200 2)] s2 (fun r t => r = none ∧ P 66 [some tM, some (iv (nI 1)), some (iv c), some (iv (bI b)), some (iv (gI s2 200 2))] [] t) NoX := by
              intro v x hx hv
              have hv9 : 21 ≤ v ∧ v ≤ 22 := by rw [hv]; cases b <;> simp
              refine mcall (c_opens G g l (d+2) s2 tp (W' ++ V) C' o' (skp tp (a' + 3)) O2 M3.1 x _ v (skp tp (a' + 3)) hx O2.2.2.1 (by omega) (by omega) (by omega)) (fun r s3 h9 => ?_)
              obtain ⟨rfl, S3, h9⟩ := h9
              have Q4 : ySt σ s3 := Q3.tr (ySt.ofW S3 rfl)
              refine ⟨rfl, ?_⟩
              rcases h9 with ⟨ho, F3, M4⟩ | ⟨ho, O3, M4⟩
              · exact flt (4, skp tp (a' + 3)) s3 _ _ (by rw [yv, if_pos h41, if_pos ho]) Q4 F3 ⟨C'.length, by omega, M4.1⟩
              · refine hP _ _ _ _ ?_
                refine mcall (c_asksSign G g l (d+1) s3 tp (.ok (skp tp (a' + 3))) ⟨_, O3⟩ _ 40 rfl (by omega) ⟨rfl, rfl⟩) (fun r s5 h9 => ?_)
                obtain ⟨rfl, S5, X5⟩ := h9
                have X5 : PX tp (askS tp 40 (skp tp (a' + 3))) s5 := X5
                rw [show askS tp 40 (skp tp (a' + 3)) = .ok (skp tp (skp tp (a' + 3) + 1)) from if_pos h41] at X5
                refine opn v (skp tp (a' + 3)) s5 _ _ _ (Q4.tr (ySt.of S5 rfl)) (yst _ (by rw [yv, if_pos h41, if_neg (by omega), hv])) (by omega) hbl ho (by omega) (by omega) X5 ⟨M4.keep S5 rfl, ?_⟩
                rw [S5.i 200 41 rfl rfl, S3.i 200 41 rfl rfl]
                exact M3.2
            refine And.intro (fun q3 => absurd (show gI s2 200 2 = - nI 1 from q3) (by rw [O2.2.2.1]; exact nI_ne_m1 (by omega))) (fun _ => ?_)
            cases b with
            | true =>
              refine And.intro (fun q4 => absurd q4 (by decide)) (fun _ => ?_)
              obtain ⟨N9, X9, h1, h2, h3⟩ := op 21 (nI 21) rfl rfl
              exact ⟨N9, X9, h1, fun r s' h => by obtain ⟨e9, h8⟩ := h2 r s' h; subst e9; exact h8, fun s' h => (h3 s' h).elim⟩
            | false =>
              refine And.intro (fun _ => ?_) (fun q4 => absurd rfl q4)
              obtain ⟨N9, X9, h1, h2, h3⟩ := op 22 (nI 22) rfl rfl
              exact ⟨N9, X9, h1, fun r s' h => by obtain ⟨e9, h8⟩ := h2 r s' h; subst e9; exact h8, fun s' h => (h3 s' h).elim⟩
        have at35 : ∀ (τ1 : AS) (c : Int32) (z3 z4 : Option AV), ySt σ τ1 → MYt V W' C' o' τ1 → PE tp (.ok a') τ1 → (kw tp wMin a' = true ∨ kw tp wMax a' = true) → P 35 [some tM, some (iv (nI 1)), some (iv c), z3, z4] [] τ1 := by
          intro τ1 c z3 z4 Q2 M2 E2 hk
          refine hP _ _ _ _ ?_
          refine mcall (c_takes_218 G g l (d+1) τ1 tp (.ok a') E2.px ((hW.keep Q2.1 rfl).1 15 wMin rfl)) (fun r s2 h9 => ?_)
          obtain ⟨rfl, S2, X2, E3⟩ := h9
          have Q3 : ySt σ s2 := Q2.tr (ySt.of S2 rfl)
          have M3 : MYt V W' C' o' s2 := M2.keep S2 rfl rfl
          cases k1 : kw tp wMin a' with
          | true =>
            rw [show kwS tp wMin (.ok a') = true from k1]
            rw [show takS tp wMin (.ok a') = .ok (skp tp (a' + 3)) from if_pos k1] at X2
            exact And.intro (fun _ => at46 s2 true _ _ (by rw [findW_mmL, if_pos k1]; rfl) Q3 M3 X2) (fun q => absurd q (by decide))
          | false =>
            rw [show kwS tp wMin (.ok a') = false from k1]
            have k2 : kw tp wMax a' = true := by rcases hk with e | e; rw [k1] at e; cases e; exact e
            have E3 : PE tp (.ok a') s2 := E3 k1
            refine And.intro (fun q => absurd rfl q) (fun _ => ?_)
            refine mcall (c_asks_219 G g l d s2 tp (.ok a') E3.px ((hW.keep Q3.1 rfl).1 16 wMax rfl)) (fun r s3 h9 => ?_)
            obtain ⟨rfl, S3, X3⟩ := h9
            have X3 : PX tp (askW tp wMax a') s3 := X3
            rw [show askW tp wMax a' = .ok (skp tp (a' + 3)) from if_pos k2] at X3
            exact at46 s3 false _ _ (by rw [findW_mmL, k1, if_neg (by decide), if_pos k2]; rfl) (Q3.tr (ySt.of S3 rfl)) (M3.keep S3 rfl rfl) X3
        refine mcall (c_isHere_218 G g l (d+2) s1 tp (.ok a') ⟨_, O1⟩ ((hW.keep Q1.1 rfl).1 15 wMin rfl)) (fun r s2 h9 => ?_)
        obtain ⟨rfl, S2, E2⟩ := h9
        have Q2 : ySt σ s2 := Q1.tr (ySt.of S2 rfl)
        have M2 : MYt V W' C' o' s2 := M1.keep S2 rfl rfl
        cases k1 : kw tp wMin a' with
        | true =>
          rw [show kwS tp wMin (.ok a') = true from k1]
          exact And.intro (fun _ => at35 s2 _ _ _ Q2 M2 E2 (Or.inl k1)) (fun q => absurd q (by decide))
        | false =>
          rw [show kwS tp wMin (.ok a') = false from k1]
          refine And.intro (fun q => absurd rfl q) (fun _ => ?_)
          refine mcall (c_isHere_219 G g l (d+2) s2 tp (.ok a') E2.px ((hW.keep Q2.1 rfl).1 16 wMax rfl)) (fun r s3 h9 => ?_)
          obtain ⟨rfl, S3, E3⟩ := h9
          have Q3 : ySt σ s3 := Q2.tr (ySt.of S3 rfl)
          have M3 : MYt V W' C' o' s3 := M2.keep S3 rfl rfl
          cases k2 : kw tp wMax a' with
          | true =>
            rw [show kwS tp wMax (.ok a') = true from k2]
            exact And.intro (fun q => absurd q (by decide)) (fun _ => at35 s3 _ _ _ Q3 M3 E3 (Or.inr k2))
          | false =>
            rw [show kwS tp wMax (.ok a') = false from k2]
            refine And.intro (fun _ => ?_) (fun q => absurd rfl q)
            exact part W' C' o' a' s3 _ _ _ Q3 hR ha ⟨E3.px, M3, hI⟩ n40 (by rw [findW_mmL, k1, if_neg (by decide), k2, if_neg (by decide)])
      · have h40 : tp[a']? = some 40 := (byI_eq O1.1.1 a' 40 (by omega)).mp q
        have hbl := get_lt h40
        refine mcall (c_opens G g l (d+2) s1 tp (W' ++ V) C' o' a' O1 M1.1 _ _ 20 a' rfl O1.2.2.1 (by omega) (by omega) (by omega)) (fun r s3 h9 => ?_)
        obtain ⟨rfl, S3, h9⟩ := h9
        have Q4 : ySt σ s3 := Q1.tr (ySt.ofW S3 rfl)
        have S5 : mS [2] [] s3 (sI s3 200 2 (gI s3 200 2 + nI 1)) := mS.rf.f rfl
        rcases h9 with ⟨ho, F3, M4⟩ | ⟨ho, O3, M4⟩
        · refine fl (4, a') _ _ _ _ _ (Q4.tr (ySt.of S5 rfl)) (yst _ ?_) ⟨F3.inc, C'.length, by omega, ?_⟩
          · unfold yP; rw [if_pos h40, if_pos ho]
          · rw [S5.i 200 35 rfl rfl]; exact M4.1
        · refine opn 20 a' _ _ _ _ (Q4.tr (ySt.of S5 rfl)) (yst _ ?_) (Nat.le_refl _) hbl ho (by omega) (by omega) (O3.inc h40 ⟨rfl, rfl⟩ rfl) ⟨M4.keep S5 rfl, ?_⟩
          · unfold yP; rw [if_pos h40, if_neg (by omega)]
          · rw [S5.i 200 41 rfl rfl, S3.i 200 41 rfl rfl]
            exact M1.2
  exact hP _ _ _ _ (key (tp.length - a + 1) W C o a σ none none none (by omega) ySt.rf Rch.rf (Nat.le_refl _) h)
end OPT_
