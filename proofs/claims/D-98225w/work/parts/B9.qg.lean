/-! behind a fact: brackets, and, or -/
def gS (σ t : AS) : Prop := mS [2, 4, 5, 6, 89, 91, 92] [264, 265] σ t
def TI (W C : List Nat) (o a : Nat) : Prop := (∀ v ∈ W, v = 10 ∨ v = 11 ∨ v = 12 ∨ v = 25) ∧ cntT W ≤ o ∧ o ≤ 6 ∧ C.length + W.length < a
def YT (tp W C : List Nat) (o a : Nat) (t : AS) : Prop := PX tp (.ok a) t ∧ MFq W C o t ∧ TI W C o a
theorem drN_inv : ∀ (W C : List Nat) (o : Nat), cntT W ≤ o → cntT (drN W C o).1 ≤ (drN W C o).2.2 ∧ (drN W C o).2.2 ≤ o ∧ (∀ x ∈ (drN W C o).1, x ∈ W) ∧ (drN W C o).2.1.length + (drN W C o).1.length = C.length + W.length
  | [], C, o, h => ⟨h, Nat.le_refl _, fun x hx => hx, rfl⟩
  | v :: W, C, o, h => by
    rw [cntT_c] at h
    unfold drN
    by_cases hv : v = 12
    · rw [if_pos hv]
      rw [if_pos (by omega)] at h
      obtain ⟨k1, k2, k3, k4⟩ := drN_inv W (C ++ [v]) (o-1) (by omega)
      refine ⟨k1, by omega, fun x hx => List.mem_cons_of_mem _ (k3 x hx), ?_⟩
      rw [k4]
      simp only [List.length_append, List.length_cons, List.length_nil]
      omega
    · rw [if_neg hv]
      exact ⟨by rw [cntT_c]; exact h, Nat.le_refl _, fun x hx => hx, rfl⟩
theorem YT.le {tp W C : List Nat} {o a : Nat} {t : AS} (h : YT tp W C o a t) : a ≤ tp.length ∧ tp.length ≤ 1600 ∧ C.length + W.length < a := by
  obtain ⟨⟨a', h1⟩, h2, h3⟩ := h
  exact ⟨h1.2.2.2.2.1, h1.1.len, h3.2.2.2⟩
theorem TI.mono {W C W' C' : List Nat} {o o' a a' : Nat} (h : TI W C o a) (h1 : ∀ v ∈ W', v ∈ W) (h2 : cntT W' ≤ o') (h3 : o' ≤ o) (h4 : C'.length + W'.length ≤ C.length + W.length) (h5 : a ≤ a') : TI W' C' o' a' :=
  ⟨fun v hv => h.1 v (h1 v hv), h2, by have := h.2.2.1; omega, by have := h.2.2.2; omega⟩
theorem cntT_tl {v : Nat} {W : List Nat} : cntT W ≤ cntT (v :: W) := by rw [cntT_c]; omega
section QG_
variable (G : CX) (g : GX) (l : Launch) (d : Nat) (σ : AS)
set_option maxHeartbeats 2000000 in
theorem c_qGoesOnTest (tp W C : List Nat) (o a : Nat) (h : YT tp W C o a σ) (hW : Wds σ) :
    MC G g l (d+4) mX6_qGoesOnTest [tM] σ (fun r t => gS σ t ∧ ∃ y, TRc tp (1, W, C, o, a) y ∧ ((∃ W' C' o' a', y = (0, W', C', o', a') ∧ a < a' ∧ r = some (iv (bI true)) ∧ YT tp W' C' o' a' t) ∨ (∃ W' C' o' a', y = (2, [], C' ++ W', o', a') ∧ r = some (iv (bI false)) ∧ YT tp W' C' o' a' t) ∨ (∃ f, y = yflt f ∧ r = some (iv (bI false)) ∧ PF tp f t))) := by
  refine MC1 tX6_qGoesOnTest [0, 16, 38, 43, 69] rfl okX6_qGoesOnTest rfl rfl rfl rfl (fun P hP => ?_)
  -- one that joins is pushed
  have at38 : ∀ (W' C' : List Nat) (o' a' : Nat) (τ : AS), gS σ τ → TRc tp (1, W, C, o, a) (1, W', C', o', a') → a ≤ a' → YT tp W' C' o' a' τ → ¬ (tp[a']? = some 93 ∧ 25 ∈ W') → P 38 [some tM] [] τ := by
    intro W' C' o' a' τ hS hR ha hO h93
    have hle := YT.le hO
    obtain ⟨hX, hM, hI⟩ := hO
    refine hP _ _ _ _ ?_
    refine mcall (c_takes_253 G g l d τ tp (.ok a') hX ((hW.keep hS rfl).2 7 wAnd rfl)) (fun r s1 h9 => ?_)
    obtain ⟨rfl, S1, X1, E1⟩ := h9
    have Q1 : gS σ s1 := hS.tr (S1.mono rfl rfl)
    have M1 := hM.keep S1 rfl
    cases k1 : kw tp wAnd a' with
    | true =>
      rw [show kwS tp wAnd (.ok a') = true from k1]
      rw [show takS tp wAnd (.ok a') = .ok (skp tp (a' + 3)) from if_pos k1] at X1
      refine And.intro (fun q => absurd q (by decide)) (fun _ => ?_)
      have hsk := skp_ge tp (a' + 3)
      have key : ∀ (W2 C2 : List Nat) (τ : AS), dropP isAnd W' C' = dropP isAnd W2 C2 → gS σ τ → PX tp (.ok (skp tp (a' + 3))) τ → MFq W2 C2 o' τ → C2.length + W2.length = C'.length + W'.length → cntT W2 ≤ cntT W' → (∀ v ∈ W2, v ∈ W') → P 43 [some tM] [] τ := by
        intro W2
        induction W2 with
        | nil =>
          intro C2 τ e1 S2 X2 M2 hl hc hm
          refine hP _ _ _ _ ?_
          refine mcall (c_qIsOn G g l (d+2) τ [] C2 o' 10 M2 _ rfl (by omega)) (fun r s2 h9 => ?_)
          obtain ⟨rfl, e9⟩ := h9
          subst e9
          refine And.intro (fun _ => ?_) (fun q => absurd rfl q)
          have hw : gI s2 200 91 = nI 0 := M2.2.1
          refine And.intro (show vp_in (gI s2 200 91) 1700 from by rw [hw]; exact vin 0 1700 rfl rfl) ?_
          have M3 := M2.push (i := (gI s2 200 91).toNatClampNeg) (y := nI 10) (v := 10) (x := gI (sI s2 265 (gI s2 200 91).toNatClampNeg (nI 10)) 200 91 + nI 1) (by rw [hw]; rfl) rfl (by rw [gI_sI, if_neg (by omega), hw, nI_add]; rfl) (by omega) (by simp only [List.length_nil] at hl ⊢; omega)
          have S3 : mS [91] [265] s2 (sI (sI s2 265 (gI s2 200 91).toNatClampNeg (nI 10)) 200 91 (gI (sI s2 265 (gI s2 200 91).toNatClampNeg (nI 10)) 200 91 + nI 1)) := (mS.rf.a rfl).f rfl
          refine ⟨nar1, S2.tr (S3.mono rfl rfl), _, hR.tr (TRc.one (t := (0, [10], C2, o', skp tp (a' + 3))) ?_ TRc.rf), Or.inl ⟨[10], C2, o', skp tp (a' + 3), rfl, by omega, rfl, X2.keep S3 rfl, M3, ?_⟩⟩
          · show tG tp W' C' o' a' = _
            unfold tG
            rw [if_neg h93, if_pos k1, e1]
            rfl
          · refine ⟨fun v hv => by simp at hv; omega, by show 0 ≤ o'; omega, hI.2.2.1, ?_⟩
            have := hI.2.2.2
            simp only [List.length_cons, List.length_nil] at hl ⊢
            omega
        | cons v W3 ih =>
          intro C2 τ e1 S2 X2 M2 hl hc hm
          refine hP _ _ _ _ ?_
          refine mcall (c_qIsOn G g l (d+2) τ (v :: W3) C2 o' 10 M2 _ rfl (by omega)) (fun r s2 h9 => ?_)
          obtain ⟨rfl, e9⟩ := h9
          subst e9
          have hvv := hI.1 v (hm v List.mem_cons_self)
          by_cases hv : v = 10
          · subst hv
            rw [show decide (List.head? (10 :: W3) = some 10) = true from rfl]
            refine And.intro (fun q => absurd q (by decide)) (fun _ => ?_)
            refine mcall (c_qDrops G g l (d+1) s2 W3 C2 o' 10 M2) (fun r s3 h9 => ?_)
            obtain ⟨rfl, S3, H3, M3⟩ := h9
            refine ih (C2 ++ [10]) s3 ?_ (S2.tr (S3.mono rfl rfl)) (X2.keep S3 rfl) M3 ?_ (Nat.le_trans cntT_tl hc) (fun u hu => hm u (List.mem_cons_of_mem _ hu))
            · rw [e1]
              rfl
            · rw [← hl]
              simp only [List.length_append, List.length_cons, List.length_nil]
              omega
          · rw [show decide (List.head? (v :: W3) = some 10) = false from decide_eq_false (by simpa using hv)]
            refine And.intro (fun _ => ?_) (fun q => absurd rfl q)
            have hw : gI s2 200 91 = nI (v :: W3).length := M2.2.1
            have hlb : (v :: W3).length < 1600 := by omega
            refine And.intro (show vp_in (gI s2 200 91) 1700 from by rw [hw]; exact vinN (by omega) (by decide)) ?_
            have M3 := M2.push (i := (gI s2 200 91).toNatClampNeg) (y := nI 10) (v := 10) (x := gI (sI s2 265 (gI s2 200 91).toNatClampNeg (nI 10)) 200 91 + nI 1) (by rw [hw, clN (by omega)]) rfl (by rw [gI_sI, if_neg (by omega), hw, nI_add]) (by omega) (by omega)
            have S3 : mS [91] [265] s2 (sI (sI s2 265 (gI s2 200 91).toNatClampNeg (nI 10)) 200 91 (gI (sI s2 265 (gI s2 200 91).toNatClampNeg (nI 10)) 200 91 + nI 1)) := (mS.rf.a rfl).f rfl
            have e2 : dropP isAnd (v :: W3) C2 = (v :: W3, C2) := by
              show (if isAnd v = true then _ else _) = _
              rw [if_neg (by unfold isAnd; rw [decide_eq_false hv]; decide)]
            refine ⟨nar1, S2.tr (S3.mono rfl rfl), _, hR.tr (TRc.one (t := (0, 10 :: v :: W3, C2, o', skp tp (a' + 3))) ?_ TRc.rf), Or.inl ⟨10 :: v :: W3, C2, o', skp tp (a' + 3), rfl, by omega, rfl, X2.keep S3 rfl, M3, ?_⟩⟩
            · show tG tp W' C' o' a' = _
              unfold tG
              rw [if_neg h93, if_pos k1, e1, e2]
              rfl
            · refine ⟨fun u hu => ?_, by rw [cntT_c, if_neg (by omega)]; have := hI.2.1; omega, hI.2.2.1, ?_⟩
              · rcases List.mem_cons.mp hu with e | e
                · omega
                · exact hI.1 u (hm u e)
              · have := hI.2.2.2
                rw [List.length_cons]
                omega
      exact key W' C' s1 rfl Q1 X1 M1 rfl (Nat.le_refl _) (fun v hv => hv)
    | false =>
      rw [show kwS tp wAnd (.ok a') = false from k1]
      have nk1 : ¬ kw tp wAnd a' = true := by rw [k1]; decide
      have E1 : PE tp (.ok a') s1 := E1 k1
      refine And.intro (fun _ => ?_) (fun q => absurd rfl q)
      refine mcall (c_takes_254 G g l d s1 tp (.ok a') E1.px ((hW.keep Q1 rfl).2 8 wOr rfl)) (fun r s2 h9 => ?_)
      obtain ⟨rfl, S2, X2, E2⟩ := h9
      have Q2 : gS σ s2 := Q1.tr (S2.mono rfl rfl)
      have M2 := M1.keep S2 rfl
      cases k2 : kw tp wOr a' with
      | true =>
        rw [show kwS tp wOr (.ok a') = true from k2]
        rw [show takS tp wOr (.ok a') = .ok (skp tp (a' + 2)) from if_pos k2] at X2
        refine And.intro (fun q => absurd q (by decide)) (fun _ => ?_)
        have hsk := skp_ge tp (a' + 2)
        -- push 11
        have psh11 : ∀ (W2 C2 : List Nat) (τ : AS), dropP isAO W' C' = (W2, C2) → gS σ τ → PX tp (.ok (skp tp (a' + 2))) τ → MFq W2 C2 o' τ → C2.length + W2.length = C'.length + W'.length → cntT W2 ≤ cntT W' → (∀ v ∈ W2, v ∈ W') → vp_in (gI τ 200 91) 1700 ∧ ((NarOK 1 (nI 1)) ∧ gS σ (sI (sI τ 265 (gI τ 200 91).toNatClampNeg (nI 11)) 200 91 (gI (sI τ 265 (gI τ 200 91).toNatClampNeg (nI 11)) 200 91 + nI 1)) ∧ ∃ y, TRc tp (1, W, C, o, a) y ∧ ((∃ W' C' o' a', y = (0, W', C', o', a') ∧ a < a' ∧ some (iv (nI 1)) = some (iv (bI true)) ∧ YT tp W' C' o' a' (sI (sI τ 265 (gI τ 200 91).toNatClampNeg (nI 11)) 200 91 (gI (sI τ 265 (gI τ 200 91).toNatClampNeg (nI 11)) 200 91 + nI 1))) ∨ (∃ W' C' o' a', y = (2, [], C' ++ W', o', a') ∧ some (iv (nI 1)) = some (iv (bI false)) ∧ YT tp W' C' o' a' (sI (sI τ 265 (gI τ 200 91).toNatClampNeg (nI 11)) 200 91 (gI (sI τ 265 (gI τ 200 91).toNatClampNeg (nI 11)) 200 91 + nI 1))) ∨ (∃ f, y = yflt f ∧ some (iv (nI 1)) = some (iv (bI false)) ∧ PF tp f (sI (sI τ 265 (gI τ 200 91).toNatClampNeg (nI 11)) 200 91 (gI (sI τ 265 (gI τ 200 91).toNatClampNeg (nI 11)) 200 91 + nI 1))))) := by
          intro W2 C2 τ e1 S2 X2 M2 hl hc hm
          have hw : gI τ 200 91 = nI W2.length := M2.2.1
          have hlb : W2.length < 1600 := by omega
          refine And.intro (by rw [hw]; exact vinN (by omega) (by decide)) ?_
          have M3 := M2.push (i := (gI τ 200 91).toNatClampNeg) (y := nI 11) (v := 11) (x := gI (sI τ 265 (gI τ 200 91).toNatClampNeg (nI 11)) 200 91 + nI 1) (by rw [hw, clN (by omega)]) rfl (by rw [gI_sI, if_neg (by omega), hw, nI_add]) (by omega) (by omega)
          have S3 : mS [91] [265] τ (sI (sI τ 265 (gI τ 200 91).toNatClampNeg (nI 11)) 200 91 (gI (sI τ 265 (gI τ 200 91).toNatClampNeg (nI 11)) 200 91 + nI 1)) := (mS.rf.a rfl).f rfl
          refine ⟨nar1, S2.tr (S3.mono rfl rfl), _, hR.tr (TRc.one (t := (0, 11 :: W2, C2, o', skp tp (a' + 2))) ?_ TRc.rf), Or.inl ⟨11 :: W2, C2, o', skp tp (a' + 2), rfl, by omega, rfl, X2.keep S3 rfl, M3, ?_⟩⟩
          · show tG tp W' C' o' a' = _
            unfold tG
            rw [if_neg h93, if_neg nk1, if_pos k2, e1]
            rfl
          · refine ⟨fun u hu => ?_, by rw [cntT_c, if_neg (by omega)]; have := hI.2.1; omega, hI.2.2.1, ?_⟩
            · rcases List.mem_cons.mp hu with e | e
              · omega
              · exact hI.1 u (hm u e)
            · have := hI.2.2.2
              rw [List.length_cons]
              omega
        have key : ∀ (W2 C2 : List Nat) (τ : AS), dropP isAO W' C' = dropP isAO W2 C2 → gS σ τ → PX tp (.ok (skp tp (a' + 2))) τ → MFq W2 C2 o' τ → C2.length + W2.length = C'.length + W'.length → cntT W2 ≤ cntT W' → (∀ v ∈ W2, v ∈ W') → P 69 [some tM] [] τ := by
          intro W2
          induction W2 with
          | nil =>
            intro C2 τ e1 S2 X2 M2 hl hc hm
            refine hP _ _ _ _ ?_
            refine mcall (c_qIsOn G g l (d+2) τ [] C2 o' 10 M2 _ rfl (by omega)) (fun r s2 h9 => ?_)
            obtain ⟨rfl, e9⟩ := h9
            subst e9
            refine And.intro (fun q => absurd rfl q) (fun _ => ?_)
            refine mcall (c_qIsOn G g l (d+2) s2 [] C2 o' 11 M2 _ rfl (by omega)) (fun r s3 h9 => ?_)
            obtain ⟨rfl, e9⟩ := h9
            subst e9
            exact And.intro (fun _ => psh11 [] C2 s3 e1 S2 X2 M2 hl hc hm) (fun q => absurd rfl q)
          | cons v W3 ih =>
            intro C2 τ e1 S2 X2 M2 hl hc hm
            have drp : ∀ s2, s2 = τ → isAO v = true → callP G (true, g) l (d+4) mX6_qDrops [tM] s2 (fun r t => r = none ∧ P 69 [some tM] [] t) NoX := by
              intro s2 e9 hv
              subst e9
              refine mcall (c_qDrops G g l (d+1) s2 W3 C2 o' v M2) (fun r s3 h9 => ?_)
              obtain ⟨rfl, S3, H3, M3⟩ := h9
              refine ⟨rfl, ih (C2 ++ [v]) s3 ?_ (S2.tr (S3.mono rfl rfl)) (X2.keep S3 rfl) M3 ?_ (Nat.le_trans cntT_tl hc) (fun u hu => hm u (List.mem_cons_of_mem _ hu))⟩
              · rw [e1]
                show (if isAO v = true then _ else _) = _
                rw [if_pos hv]
              · rw [← hl]
                simp only [List.length_append, List.length_cons, List.length_nil]
                omega
            refine hP _ _ _ _ ?_
            refine mcall (c_qIsOn G g l (d+2) τ (v :: W3) C2 o' 10 M2 _ rfl (by omega)) (fun r s2 h9 => ?_)
            obtain ⟨rfl, e9⟩ := h9
            by_cases hv : v = 10
            · subst hv
              rw [show decide (List.head? (10 :: W3) = some 10) = true from rfl]
              refine And.intro (fun _ => ?_) (fun q => absurd q (by decide))
              obtain ⟨N9, X9, h1, h2, h3⟩ := drp s2 e9 rfl
              exact ⟨N9, X9, h1, fun r s' h => by obtain ⟨e9, h8⟩ := h2 r s' h; subst e9; exact h8, fun s' h => (h3 s' h).elim⟩
            · rw [show decide (List.head? (v :: W3) = some 10) = false from decide_eq_false (by simpa using hv)]
              refine And.intro (fun q => absurd rfl q) (fun _ => ?_)
              subst e9
              refine mcall (c_qIsOn G g l (d+2) s2 (v :: W3) C2 o' 11 M2 _ rfl (by omega)) (fun r s3 h9 => ?_)
              obtain ⟨rfl, e9⟩ := h9
              by_cases hv2 : v = 11
              · subst hv2
                rw [show decide (List.head? (11 :: W3) = some 11) = true from rfl]
                refine And.intro (fun q => absurd q (by decide)) (fun _ => ?_)
                obtain ⟨N9, X9, h1, h2, h3⟩ := drp s3 e9 rfl
                exact ⟨N9, X9, h1, fun r s' h => by obtain ⟨e9, h8⟩ := h2 r s' h; subst e9; exact h8, fun s' h => (h3 s' h).elim⟩
              · rw [show decide (List.head? (v :: W3) = some 11) = false from decide_eq_false (by simpa using hv2)]
                subst e9
                have e2 : dropP isAO (v :: W3) C2 = (v :: W3, C2) := by
                  show (if isAO v = true then _ else _) = _
                  rw [if_neg (by unfold isAO; rw [decide_eq_false (by omega)]; decide)]
                exact And.intro (fun _ => psh11 (v :: W3) C2 s3 (e1.trans e2) S2 X2 M2 hl hc hm) (fun q => absurd rfl q)
        exact key W' C' s2 rfl Q2 X2 M2 rfl (Nat.le_refl _) (fun v hv => hv)
      | false =>
        rw [show kwS tp wOr (.ok a') = false from k2]
        have nk2 : ¬ kw tp wOr a' = true := by rw [k2]; decide
        have E2 : PO tp a' a' s2 := E2 k2
        refine And.intro (fun _ => And.intro (fun q => absurd E2.2.1 q) (fun _ => ?_)) (fun q => absurd rfl q)
        refine mcall (c_qHasSquare G g l (d+2) s2 W' C' o' M2) (fun r s3 h9 => ?_)
        obtain ⟨rfl, e9⟩ := h9
        subst e9
        by_cases hm : 25 ∈ W'
        · rw [decide_eq_true hm]
          refine And.intro (fun q => absurd q (by decide)) (fun _ => ?_)
          refine mcall (c_fail0 G g l (d+2) s3 tp E2.1 E2.2.1 _ _ 1 a' rfl E2.2.2.1 (by omega) (by omega) (by omega)) (fun r s4 h9 => ?_)
          obtain ⟨rfl, S4, F4⟩ := h9
          refine ⟨nar0, Q2.tr (S4.mono rfl rfl), yflt (1, a'), hR.tr (TRc.one ?_ TRc.rf), Or.inr (Or.inr ⟨(1, a'), rfl, rfl, F4⟩)⟩
          show tG tp W' C' o' a' = _
          unfold tG
          rw [if_neg h93, if_neg nk1, if_neg nk2, if_pos hm]
        · rw [decide_eq_false hm]
          refine And.intro (fun _ => ?_) (fun q => absurd rfl q)
          refine ⟨nar0, Q2, (2, [], C' ++ W', o', a'), hR.tr (TRc.one ?_ TRc.rf), Or.inr (Or.inl ⟨W', C', o', a', rfl, rfl, ⟨_, E2⟩, M2, hI⟩)⟩
          show tG tp W' C' o' a' = _
          unfold tG
          rw [if_neg h93, if_neg nk1, if_neg nk2, if_neg hm]
  have main : ∀ (m : Nat) (W' C' : List Nat) (o' a' : Nat) (τ : AS), tp.length - a' < m → gS σ τ → TRc tp (1, W, C, o, a) (1, W', C', o', a') → a ≤ a' → YT tp W' C' o' a' τ → P 0 [some tM] [] τ := by
    intro m
    induction m with
    | zero => intro W' C' o' a' τ hm; omega
    | succ m ih =>
      intro W' C' o' a' τ hm hS hR ha hO
      have hle := YT.le hO
      have hO9 := hO
      obtain ⟨⟨a9, hX9⟩, hM, hI⟩ := hO
      refine hP _ _ _ _ (And.intro (fun q => absurd hX9.2.1 q) (fun _ => ?_))
      refine mcall (c_look G g l (d+2) τ tp a' a9 hX9) (fun r s1 h9 => ?_)
      obtain ⟨rfl, S1, O1⟩ := h9
      have Q1 : gS σ s1 := hS.tr (S1.mono rfl rfl)
      have M1 := hM.keep S1 rfl
      by_cases h93 : tp[a']? = some 93
      · refine And.intro (fun q => absurd ((byI_eq O1.1.1 a' 93 (by omega)).mpr h93) q) (fun _ => ?_)
        refine mcall (c_qHasSquare G g l (d+2) s1 W' C' o' M1) (fun r s2 h9 => ?_)
        obtain ⟨rfl, e9⟩ := h9
        subst e9
        by_cases hmm : 25 ∈ W'
        · rw [decide_eq_true hmm]
          refine And.intro (fun q => absurd q (by decide)) (fun _ => ?_)
          have hbl := get_lt h93
          have X2 := O1.inc h93 ⟨rfl, rfl⟩ rfl
          have S2 : mS [2] [] s2 (sI s2 200 2 (gI s2 200 2 + nI 1)) := mS.rf.f rfl
          have hs := skp_ge tp (a'+1)
          have key : ∀ (W2 C2 : List Nat) (τ : AS), drS W' C' = drS W2 C2 → 25 ∈ W2 → gS σ τ → PX tp (.ok (skp tp (a' + 1))) τ → MFq W2 C2 o' τ → C2.length + W2.length ≤ C'.length + W'.length → cntT W2 ≤ o' → (∀ v ∈ W2, v ∈ W') → P 16 [some tM] [] τ := by
            intro W2
            induction W2 with
            | nil => intro C2 τ e1 h25; simp at h25
            | cons v W3 ih3 =>
              intro C2 τ e1 h25 S3 X3 M3 hl hc hmem
              refine hP _ _ _ _ ?_
              refine mcall (c_qIsOn G g l (d+2) τ (v :: W3) C2 o' 25 M3 _ rfl (by omega)) (fun r s3 h9 => ?_)
              obtain ⟨rfl, e9⟩ := h9
              subst e9
              by_cases hv : v = 25
              · subst hv
                rw [show decide (List.head? (25 :: W3) = some 25) = true from rfl]
                refine And.intro (fun _ => ?_) (fun q => absurd q (by decide))
                rw [cntT_c, if_pos (by omega)] at hc
                have hw : gI s3 200 91 = nI (W3.length + 1) := M3.2.1
                have hk : gI s3 200 91 - nI 1 = nI W3.length := by rw [hw, nI_s1 _ _ (by omega)]; rfl
                have M4 := (M3.pop hk).deco rfl (by omega)
                have S4 : mS [91, 92] [] s3 (sI (sI s3 200 91 (gI s3 200 91 - nI 1)) 200 92 (gI (sI s3 200 91 (gI s3 200 91 - nI 1)) 200 92 - nI 1)) := (mS.rf.f rfl).f rfl
                show callP G (true, g) l (d+4) mX6_qDropsNots [tM] (sI (sI s3 200 91 (gI s3 200 91 - nI 1)) 200 92 (gI (sI s3 200 91 (gI s3 200 91 - nI 1)) 200 92 - nI 1)) _ _
                generalize sI (sI s3 200 91 (gI s3 200 91 - nI 1)) 200 92 (gI (sI s3 200 91 (gI s3 200 91 - nI 1)) 200 92 - nI 1) = s4 at *
                have X4 := X3.keep S4 rfl
                refine mcall (c_qDropsNots G g l d s4 W3 C2 (o' - 1) M4 (PE.bad0 X4) (by omega)) (fun r s5 h9 => ?_)
                obtain ⟨rfl, S5, M5⟩ := h9
                obtain ⟨i1, i2, i3, i4⟩ := drN_inv W3 C2 (o' - 1) (by omega)
                refine ih (drN W3 C2 (o' - 1)).1 (drN W3 C2 (o' - 1)).2.1 (drN W3 C2 (o' - 1)).2.2 (skp tp (a' + 1)) s5 (by omega) ((S3.tr (S4.mono rfl rfl)).tr (S5.mono rfl rfl)) (hR.tr (TRc.one ?_ TRc.rf)) (by omega) ⟨X4.keep S5 rfl, M5, hI.mono (fun u hu => hmem u (List.mem_cons_of_mem _ (i3 u hu))) i1 (by omega) ?_ (by omega)⟩
                · show tG tp W' C' o' a' = _
                  unfold tG
                  rw [if_pos ⟨h93, hmm⟩, e1]
                  rfl
                · rw [List.length_cons] at hl
                  omega
              · rw [show decide (List.head? (v :: W3) = some 25) = false from decide_eq_false (by simpa using hv)]
                refine And.intro (fun q => absurd rfl q) (fun _ => ?_)
                refine mcall (c_qDrops G g l (d+1) s3 W3 C2 o' v M3) (fun r s4 h9 => ?_)
                obtain ⟨rfl, S4, H4, M4⟩ := h9
                refine ih3 (C2 ++ [v]) s4 ?_ ?_ (S3.tr (S4.mono rfl rfl)) (X3.keep S4 rfl) M4 ?_ (Nat.le_trans cntT_tl hc) (fun u hu => hmem u (List.mem_cons_of_mem _ hu))
                · rw [e1]
                  show (if v = 25 then _ else _) = _
                  rw [if_neg hv]
                · rcases List.mem_cons.mp h25 with e | e
                  · exact absurd e.symm hv
                  · exact e
                · simp only [List.length_append, List.length_cons, List.length_nil] at hl ⊢
                  omega
          exact key W' C' _ rfl hmm (Q1.tr (S2.mono rfl rfl)) X2 (M1.keep S2 rfl) (Nat.le_refl _) hI.2.1 (fun v hv => hv)
        · rw [decide_eq_false hmm]
          refine And.intro (fun _ => ?_) (fun q => absurd rfl q)
          exact at38 W' C' o' a' s2 Q1 hR ha ⟨⟨_, O1⟩, M1, hI⟩ (fun q => hmm q.2)
      · refine And.intro (fun _ => ?_) (fun q => absurd ((byI_eq O1.1.1 a' 93 (by omega)).mp q) h93)
        exact at38 W' C' o' a' s1 Q1 hR ha ⟨⟨_, O1⟩, M1, hI⟩ (fun q => h93 q.1)
  exact main (tp.length - a + 1) W C o a σ (by omega) mS.rf TRc.rf (Nat.le_refl _) h
end QG_
