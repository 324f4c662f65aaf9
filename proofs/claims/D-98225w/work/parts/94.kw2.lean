section KW_9
variable (G : CX) (g : GX) (l : Launch) (d : Nat) (σ : AS)
set_option maxHeartbeats 1000000 in
theorem c_isHere_212 (tp : List Nat) (S : Pos) (h : PX tp S σ) (hw : Wd 212 wBroad σ) : MC G g l (d+2) mX6_isHere [tM, .inr (.inr (some (.inl 212)))] σ (fun r t => r = some (iv (bI (kwS tp wBroad S))) ∧ mS [2] [] σ t ∧ PE tp S t) := by
  refine MC1 tX6_isHere [12, 17, 29, 40] rfl okX6_isHere rfl rfl rfl rfl (fun P hP => ?_)
  have no : ∀ τ, kwS tp wBroad S = false → mS [2] [] σ τ → PE tp S τ → P 12 [some tM, some (.inr (.inr (some (.inl 212)))), none, none] [] τ := fun τ e hS hE => hP _ _ _ _ ⟨nar0, by rw [e]; rfl, hS, hE⟩
  refine hP _ _ _ _ ?_
  cases S with
  | error f =>
    refine And.intro (fun _ => no σ rfl mS.rf h) (fun q => absurd q (pf_bad h))
  | ok a =>
    obtain ⟨a', h9⟩ := h
    refine And.intro (fun q => absurd h9.2.1 q) (fun _ => ?_)
    refine mcall (c_look G g l d σ tp a a' h9) (fun r s1 h8 => ?_)
    obtain ⟨rfl, S1, O1⟩ := h8
    have hw1 : Wd 212 wBroad s1 := hw.keep S1 rfl rfl
    obtain ⟨p1, p2, p3, p4, p5, p6, e, p7, p8, p9, p10⟩ := O1
    have O1 : PO tp a a s1 := ⟨p1, p2, p3, p4, p5, p6, e, p7, p8, p9, p10⟩
    have hl := p1.len
    refine mcall (c_isLetter G g l d s1 (byI tp a)) (fun r s2 h8 => ?_)
    obtain ⟨rfl, rfl⟩ := h8
    rw [letB p1.1 a]
    cases hL : isAt isL tp a with
    | false => exact And.intro (fun _ => no s2 (by show kw tp wBroad a = false; unfold kw; rw [hL]; rfl) S1 O1) (fun q => absurd rfl q)
    | true =>
      refine And.intro (fun q => absurd q (by decide)) (fun _ => And.intro (fun q => ?_) (fun q => ?_))
      · have hpr : prLD tp a = false := pr_ne p3 p7 p9 (by omega) (by omega) q
        have at17 : ∀ (m k : Nat), k + m = wEn tp a → a ≤ k → P 17 [some tM, some (.inr (.inr (some (.inl 212)))), some (iv (nI k)), none] [] s2 := by
          intro m
          have hwl : wEn tp a ≤ tp.length := endE_le isL p5
          have h3 : gI s2 200 3 = nI tp.length := p1.2
          have fin : ∀ k, k = wEn tp a → P 17 [some tM, some (.inr (.inr (some (.inl 212)))), some (iv (nI k)), none] [] s2 := by
            intro k hk
            subst hk
            have aw : a ≤ wEn tp a := endE_ge isL tp a
            have ed : nI (wEn tp a) - gI s2 200 2 = nI (wEn tp a - a) := by rw [p3]; exact nI_s1 _ _ aw
            have hsl := sub_len (tp := tp) (a := a) hwl
            have kwe : kw tp wBroad a = decide (sub_ tp a (wEn tp a) = wBroad) := by unfold kw; rw [hL, hpr]; rfl
            have at29 : P 29 [some tM, some (.inr (.inr (some (.inl 212)))), some (iv (nI (wEn tp a))), none] [] s2 := by
              refine hP _ _ _ _ (And.intro (fun q => ?_) (fun q => ⟨nar0, ?_, S1, O1⟩))
              · have q0 : nI (wEn tp a) - gI s2 200 2 = nI 5 := q
                rw [ed, nI_eq (by omega) (by omega)] at q0
                have at40 : ∀ (m i : Nat), i + m = 5 → (∀ j, j < i → tp[a + j]? = wBroad[j]?) → P 40 [some tM, some (.inr (.inr (some (.inl 212)))), some (iv (nI (wEn tp a))), some (iv (nI i))] [] s2 := by
                  intro m
                  induction m with
                  | zero =>
                    intro i hi hall
                    refine hP _ _ _ _ (And.intro (fun _ => ⟨nar1, ?_, S1, O1⟩) (fun q => absurd (show nI 5 ≤ nI i from nI_le (by omega) (by omega)) q))
                    rw [show kwS tp wBroad (.ok a) = true from ?_]
                    · rfl
                    · show kw tp wBroad a = true
                      rw [kwe]
                      refine decide_eq_true (List.ext_getElem? (fun j => ?_))
                      by_cases hj : j < 5
                      · rw [sub_get (by omega)]; exact hall j (by omega)
                      · rw [List.getElem?_eq_none (by omega), List.getElem?_eq_none (show wBroad.length ≤ j by show 5 ≤ j; omega)]
                  | succ m ih =>
                    intro i hi hall
                    have hil : a + i < tp.length := by omega
                    obtain ⟨c, hc⟩ : ∃ c, tp[a + i]? = some c := ⟨_, List.getElem?_eq_getElem hil⟩
                    obtain ⟨u, hu⟩ : ∃ u, wBroad[i]? = some u := ⟨_, List.getElem?_eq_getElem (show i < wBroad.length by show i < 5; omega)⟩
                    have hv := p1.1.2 _ c hc
                    have hu2 := hw1.1 i u hu
                    have ei : gI s2 200 2 + nI i = nI (a + i) := by rw [p3, nI_add]
                    have g1 : gI s2 201 (gI s2 200 2 + nI i).toNatClampNeg = nI c := by rw [ei, clN (by omega), hv.1]
                    have g2 : gI s2 212 (nI i).toNatClampNeg = nI u := by rw [clN (by omega), hu2]
                    have hub := hw1.2 u (List.mem_of_getElem? hu)
                    refine hP _ _ _ _ (And.intro (fun q => absurd q (show ¬ nI 5 ≤ nI i from nI_ge (by omega) (by omega))) (fun _ => And.intro (show vp_in (gI s2 200 2 + nI i) 1600 from by rw [ei]; exact vinN (by omega) (by decide)) (And.intro (show vp_in (nI i) 5 from vinN (by omega) (by decide)) (And.intro (fun q => ?_) (fun q => ⟨nar0, ?_, S1, O1⟩)))))
                    · have q1 : gI s2 201 (gI s2 200 2 + nI i).toNatClampNeg = gI s2 212 (nI i).toNatClampNeg := q
                      rw [g1, g2, nI_eq (by omega) (by omega)] at q1
                      show P 40 [some tM, some (.inr (.inr (some (.inl 212)))), some (iv (nI (wEn tp a))), some (iv (nI i + nI 1))] [] s2
                      rw [nI_add]
                      refine ih (i+1) (by omega) (fun j hj => ?_)
                      by_cases ej : j = i
                      · rw [ej, hc, hu, q1]
                      · exact hall j (by omega)
                    · have q1 : ¬ gI s2 201 (gI s2 200 2 + nI i).toNatClampNeg = gI s2 212 (nI i).toNatClampNeg := q
                      rw [g1, g2, nI_eq (by omega) (by omega)] at q1
                      rw [show kwS tp wBroad (.ok a) = false from ?_]
                      · rfl
                      · show kw tp wBroad a = false
                        rw [kwe]
                        refine decide_eq_false (fun e9 => q1 ?_)
                        have := sub_get (tp := tp) (a := a) (b := wEn tp a) (i := i) (by omega)
                        rw [e9, hc, hu] at this
                        cases this
                        rfl
                exact at40 5 0 (by omega) (fun j hj => absurd hj (Nat.not_lt_zero _))
              · have q0 : ¬ nI (wEn tp a) - gI s2 200 2 = nI 5 := q
                rw [ed, nI_eq (by omega) (by omega)] at q0
                rw [show kwS tp wBroad (.ok a) = false from ?_]
                · rfl
                · show kw tp wBroad a = false
                  rw [kwe]
                  refine decide_eq_false (fun e9 => q0 ?_)
                  rw [← hsl, e9]
                  rfl
            refine hP _ _ _ _ (And.intro (fun _ => at29) (fun q => ?_))
            have q0 : ¬ gI s2 200 3 ≤ nI (wEn tp a) := q
            rw [h3, nI_leI (by omega) (by omega)] at q0
            obtain ⟨c, hc⟩ : ∃ c, tp[wEn tp a]? = some c := ⟨_, List.getElem?_eq_getElem (by omega)⟩
            have hv := p1.1.2 _ c hc
            refine And.intro (show vp_in (nI (wEn tp a)) 1600 from vinN (by omega) (by decide)) ?_
            refine mcall (c_isLetter G g l d s2 _) (fun r s3 h8 => ?_)
            obtain ⟨rfl, rfl⟩ := h8
            rw [show gI s3 201 (nI (wEn tp a)).toNatClampNeg = byI tp (wEn tp a) by rw [clN (by omega), hv.1]; unfold byI; rw [hc]]
            rw [letB p1.1, show isAt isL tp (wEn tp a) = false from endE_end isL tp a]
            exact And.intro (fun _ => at29) (fun q => absurd rfl q)
          induction m with
          | zero => intro k hk hak; exact fin k (by omega)
          | succ m ih =>
            intro k hk hak
            have hkL : isAt isL tp k = true := endE_in (p := isL) (a := a) hak (by show k < wEn tp a; omega)
            have hkl := isAt_lt hkL
            obtain ⟨c, hc⟩ : ∃ c, tp[k]? = some c := ⟨_, List.getElem?_eq_getElem hkl⟩
            have hv := p1.1.2 _ c hc
            refine hP _ _ _ _ (And.intro (fun q => ?_) (fun _ => And.intro (show vp_in (nI k) 1600 from vinN (by omega) (by decide)) ?_))
            · have q0 : gI s2 200 3 ≤ nI k := q
              rw [h3, nI_leI (by omega) (by omega)] at q0
              omega
            refine mcall (c_isLetter G g l d s2 _) (fun r s3 h8 => ?_)
            obtain ⟨rfl, rfl⟩ := h8
            rw [show gI s3 201 (nI k).toNatClampNeg = byI tp k by rw [clN (by omega), hv.1]; unfold byI; rw [hc]]
            rw [letB p1.1, hkL]
            refine And.intro (fun q => absurd q (by decide)) (fun _ => ?_)
            show P 17 [some tM, some (.inr (.inr (some (.inl 212)))), some (iv (nI k + nI 1)), none] [] s3
            rw [nI_add]
            exact ih (k+1) (by omega) (by omega)
        show P 17 [some tM, some (.inr (.inr (some (.inl 212)))), some (iv (gI s2 200 2)), none] [] s2
        rw [p3]
        exact at17 (wEn tp a - a) a (by have := endE_ge isL tp a; show a + (endE isL tp a - a) = endE isL tp a; omega) (Nat.le_refl _)
      · have hpr : prLD tp a = true := pr_eq p3 p7 p9 (by omega) (by omega) q
        exact no s2 (by show kw tp wBroad a = false; unfold kw; rw [hL, hpr]; rfl) S1 O1
theorem c_takes_212 (tp : List Nat) (S : Pos) (h : PX tp S σ) (hw : Wd 212 wBroad σ) : MC G g l (d+3) mX6_takes [tM, .inr (.inr (some (.inl 212)))] σ (fun r t => r = some (iv (bI (kwS tp wBroad S))) ∧ mS [2, 4] [] σ t ∧ PX tp (takS tp wBroad S) t ∧ (kwS tp wBroad S = false → PE tp S t)) := by
  refine MC0 tX6_takes rfl okX6_takes rfl rfl rfl rfl (fun P => ?_)
  refine mcall (c_isHere_212 G g l d σ tp S h hw) (fun r s1 h8 => ?_)
  obtain ⟨rfl, S1, E1⟩ := h8
  cases hk : kwS tp wBroad S with
  | false => exact And.intro (fun q => absurd rfl q) (fun _ => ⟨nar0, rfl, S1.mono rfl rfl, takS_no hk E1, fun _ => E1⟩)
  | true =>
    refine And.intro (fun _ => ⟨nar1, rfl, ((S1.mono rfl rfl).f rfl).f rfl, ?_, fun q => by cases q⟩) (fun q => absurd q (by decide))
    exact takS_yes (n := 5) hk E1 rfl
theorem c_asks_212 (tp : List Nat) (S : Pos) (h : PX tp S σ) (hw : Wd 212 wBroad σ) : MC G g l (d+4) mX6_asks [tM, .inr (.inr (some (.inl 212)))] σ (fun r t => r = none ∧ mS [2, 4, 5, 6] [] σ t ∧ PX tp (match S with
      | .ok a => askW tp wBroad a
      | .error f => .error f) t) := by
  refine MC0 tX6_asks rfl okX6_asks rfl rfl rfl rfl (fun P => ?_)
  cases S with
  | error f => exact And.intro (fun _ => ⟨rfl, mS.rf, h⟩) (fun q => absurd q (pf_bad h))
  | ok a =>
    have p2 := h.elim (fun a' h => h.2.1)
    refine And.intro (fun q => absurd p2 q) (fun _ => ?_)
    refine mcall (c_takes_212 G g l d σ tp (.ok a) h hw) (fun r s1 h8 => ?_)
    obtain ⟨rfl, S1, X1, E1⟩ := h8
    cases hk : kwS tp wBroad (.ok a) with
    | true =>
      refine And.intro (fun _ => ⟨rfl, S1.mono rfl rfl, ?_⟩) (fun q => absurd q (by decide))
      have hk0 : kw tp wBroad a = true := hk
      show PX tp (askW tp wBroad a) s1
      unfold askW
      rw [if_pos hk0]
      have : takS tp wBroad (.ok a) = .ok (skp tp (a + wBroad.length)) := if_pos hk0
      rw [this] at X1
      exact X1
    | false =>
      have hk0 : kw tp wBroad a = false := hk
      have E2 : PO tp a a s1 := E1 hk
      refine And.intro (fun q => absurd rfl q) (fun _ => ?_)
      have hl := E2.1.len
      have ha := E2.2.2.2.2.1
      refine mcall (c_fail G g l (d+2) s1 tp (.ok a) ⟨a, E2⟩ _ _ 1 a rfl E2.2.2.1 (by omega) (by omega) (by omega)) (fun r s2 h8 => ?_)
      obtain ⟨rfl, S2, X2⟩ := h8
      refine ⟨rfl, (S1.mono rfl rfl).tr (S2.mono rfl rfl), ?_⟩
      show PX tp (askW tp wBroad a) s2
      unfold askW
      rw [if_neg (by rw [hk0]; decide)]
      exact X2
set_option maxHeartbeats 1000000 in
theorem c_isHere_213 (tp : List Nat) (S : Pos) (h : PX tp S σ) (hw : Wd 213 wAt σ) : MC G g l (d+2) mX6_isHere [tM, .inr (.inr (some (.inl 213)))] σ (fun r t => r = some (iv (bI (kwS tp wAt S))) ∧ mS [2] [] σ t ∧ PE tp S t) := by
  refine MC1 tX6_isHere [12, 17, 29, 40] rfl okX6_isHere rfl rfl rfl rfl (fun P hP => ?_)
  have no : ∀ τ, kwS tp wAt S = false → mS [2] [] σ τ → PE tp S τ → P 12 [some tM, some (.inr (.inr (some (.inl 213)))), none, none] [] τ := fun τ e hS hE => hP _ _ _ _ ⟨nar0, by rw [e]; rfl, hS, hE⟩
  refine hP _ _ _ _ ?_
  cases S with
  | error f =>
    refine And.intro (fun _ => no σ rfl mS.rf h) (fun q => absurd q (pf_bad h))
  | ok a =>
    obtain ⟨a', h9⟩ := h
    refine And.intro (fun q => absurd h9.2.1 q) (fun _ => ?_)
    refine mcall (c_look G g l d σ tp a a' h9) (fun r s1 h8 => ?_)
    obtain ⟨rfl, S1, O1⟩ := h8
    have hw1 : Wd 213 wAt s1 := hw.keep S1 rfl rfl
    obtain ⟨p1, p2, p3, p4, p5, p6, e, p7, p8, p9, p10⟩ := O1
    have O1 : PO tp a a s1 := ⟨p1, p2, p3, p4, p5, p6, e, p7, p8, p9, p10⟩
    have hl := p1.len
    refine mcall (c_isLetter G g l d s1 (byI tp a)) (fun r s2 h8 => ?_)
    obtain ⟨rfl, rfl⟩ := h8
    rw [letB p1.1 a]
    cases hL : isAt isL tp a with
    | false => exact And.intro (fun _ => no s2 (by show kw tp wAt a = false; unfold kw; rw [hL]; rfl) S1 O1) (fun q => absurd rfl q)
    | true =>
      refine And.intro (fun q => absurd q (by decide)) (fun _ => And.intro (fun q => ?_) (fun q => ?_))
      · have hpr : prLD tp a = false := pr_ne p3 p7 p9 (by omega) (by omega) q
        have at17 : ∀ (m k : Nat), k + m = wEn tp a → a ≤ k → P 17 [some tM, some (.inr (.inr (some (.inl 213)))), some (iv (nI k)), none] [] s2 := by
          intro m
          have hwl : wEn tp a ≤ tp.length := endE_le isL p5
          have h3 : gI s2 200 3 = nI tp.length := p1.2
          have fin : ∀ k, k = wEn tp a → P 17 [some tM, some (.inr (.inr (some (.inl 213)))), some (iv (nI k)), none] [] s2 := by
            intro k hk
            subst hk
            have aw : a ≤ wEn tp a := endE_ge isL tp a
            have ed : nI (wEn tp a) - gI s2 200 2 = nI (wEn tp a - a) := by rw [p3]; exact nI_s1 _ _ aw
            have hsl := sub_len (tp := tp) (a := a) hwl
            have kwe : kw tp wAt a = decide (sub_ tp a (wEn tp a) = wAt) := by unfold kw; rw [hL, hpr]; rfl
            have at29 : P 29 [some tM, some (.inr (.inr (some (.inl 213)))), some (iv (nI (wEn tp a))), none] [] s2 := by
              refine hP _ _ _ _ (And.intro (fun q => ?_) (fun q => ⟨nar0, ?_, S1, O1⟩))
              · have q0 : nI (wEn tp a) - gI s2 200 2 = nI 2 := q
                rw [ed, nI_eq (by omega) (by omega)] at q0
                have at40 : ∀ (m i : Nat), i + m = 2 → (∀ j, j < i → tp[a + j]? = wAt[j]?) → P 40 [some tM, some (.inr (.inr (some (.inl 213)))), some (iv (nI (wEn tp a))), some (iv (nI i))] [] s2 := by
                  intro m
                  induction m with
                  | zero =>
                    intro i hi hall
                    refine hP _ _ _ _ (And.intro (fun _ => ⟨nar1, ?_, S1, O1⟩) (fun q => absurd (show nI 2 ≤ nI i from nI_le (by omega) (by omega)) q))
                    rw [show kwS tp wAt (.ok a) = true from ?_]
                    · rfl
                    · show kw tp wAt a = true
                      rw [kwe]
                      refine decide_eq_true (List.ext_getElem? (fun j => ?_))
                      by_cases hj : j < 2
                      · rw [sub_get (by omega)]; exact hall j (by omega)
                      · rw [List.getElem?_eq_none (by omega), List.getElem?_eq_none (show wAt.length ≤ j by show 2 ≤ j; omega)]
                  | succ m ih =>
                    intro i hi hall
                    have hil : a + i < tp.length := by omega
                    obtain ⟨c, hc⟩ : ∃ c, tp[a + i]? = some c := ⟨_, List.getElem?_eq_getElem hil⟩
                    obtain ⟨u, hu⟩ : ∃ u, wAt[i]? = some u := ⟨_, List.getElem?_eq_getElem (show i < wAt.length by show i < 2; omega)⟩
                    have hv := p1.1.2 _ c hc
                    have hu2 := hw1.1 i u hu
                    have ei : gI s2 200 2 + nI i = nI (a + i) := by rw [p3, nI_add]
                    have g1 : gI s2 201 (gI s2 200 2 + nI i).toNatClampNeg = nI c := by rw [ei, clN (by omega), hv.1]
                    have g2 : gI s2 213 (nI i).toNatClampNeg = nI u := by rw [clN (by omega), hu2]
                    have hub := hw1.2 u (List.mem_of_getElem? hu)
                    refine hP _ _ _ _ (And.intro (fun q => absurd q (show ¬ nI 2 ≤ nI i from nI_ge (by omega) (by omega))) (fun _ => And.intro (show vp_in (gI s2 200 2 + nI i) 1600 from by rw [ei]; exact vinN (by omega) (by decide)) (And.intro (show vp_in (nI i) 2 from vinN (by omega) (by decide)) (And.intro (fun q => ?_) (fun q => ⟨nar0, ?_, S1, O1⟩)))))
                    · have q1 : gI s2 201 (gI s2 200 2 + nI i).toNatClampNeg = gI s2 213 (nI i).toNatClampNeg := q
                      rw [g1, g2, nI_eq (by omega) (by omega)] at q1
                      show P 40 [some tM, some (.inr (.inr (some (.inl 213)))), some (iv (nI (wEn tp a))), some (iv (nI i + nI 1))] [] s2
                      rw [nI_add]
                      refine ih (i+1) (by omega) (fun j hj => ?_)
                      by_cases ej : j = i
                      · rw [ej, hc, hu, q1]
                      · exact hall j (by omega)
                    · have q1 : ¬ gI s2 201 (gI s2 200 2 + nI i).toNatClampNeg = gI s2 213 (nI i).toNatClampNeg := q
                      rw [g1, g2, nI_eq (by omega) (by omega)] at q1
                      rw [show kwS tp wAt (.ok a) = false from ?_]
                      · rfl
                      · show kw tp wAt a = false
                        rw [kwe]
                        refine decide_eq_false (fun e9 => q1 ?_)
                        have := sub_get (tp := tp) (a := a) (b := wEn tp a) (i := i) (by omega)
                        rw [e9, hc, hu] at this
                        cases this
                        rfl
                exact at40 2 0 (by omega) (fun j hj => absurd hj (Nat.not_lt_zero _))
              · have q0 : ¬ nI (wEn tp a) - gI s2 200 2 = nI 2 := q
                rw [ed, nI_eq (by omega) (by omega)] at q0
                rw [show kwS tp wAt (.ok a) = false from ?_]
                · rfl
                · show kw tp wAt a = false
                  rw [kwe]
                  refine decide_eq_false (fun e9 => q0 ?_)
                  rw [← hsl, e9]
                  rfl
            refine hP _ _ _ _ (And.intro (fun _ => at29) (fun q => ?_))
            have q0 : ¬ gI s2 200 3 ≤ nI (wEn tp a) := q
            rw [h3, nI_leI (by omega) (by omega)] at q0
            obtain ⟨c, hc⟩ : ∃ c, tp[wEn tp a]? = some c := ⟨_, List.getElem?_eq_getElem (by omega)⟩
            have hv := p1.1.2 _ c hc
            refine And.intro (show vp_in (nI (wEn tp a)) 1600 from vinN (by omega) (by decide)) ?_
            refine mcall (c_isLetter G g l d s2 _) (fun r s3 h8 => ?_)
            obtain ⟨rfl, rfl⟩ := h8
            rw [show gI s3 201 (nI (wEn tp a)).toNatClampNeg = byI tp (wEn tp a) by rw [clN (by omega), hv.1]; unfold byI; rw [hc]]
            rw [letB p1.1, show isAt isL tp (wEn tp a) = false from endE_end isL tp a]
            exact And.intro (fun _ => at29) (fun q => absurd rfl q)
          induction m with
          | zero => intro k hk hak; exact fin k (by omega)
          | succ m ih =>
            intro k hk hak
            have hkL : isAt isL tp k = true := endE_in (p := isL) (a := a) hak (by show k < wEn tp a; omega)
            have hkl := isAt_lt hkL
            obtain ⟨c, hc⟩ : ∃ c, tp[k]? = some c := ⟨_, List.getElem?_eq_getElem hkl⟩
            have hv := p1.1.2 _ c hc
            refine hP _ _ _ _ (And.intro (fun q => ?_) (fun _ => And.intro (show vp_in (nI k) 1600 from vinN (by omega) (by decide)) ?_))
            · have q0 : gI s2 200 3 ≤ nI k := q
              rw [h3, nI_leI (by omega) (by omega)] at q0
              omega
            refine mcall (c_isLetter G g l d s2 _) (fun r s3 h8 => ?_)
            obtain ⟨rfl, rfl⟩ := h8
            rw [show gI s3 201 (nI k).toNatClampNeg = byI tp k by rw [clN (by omega), hv.1]; unfold byI; rw [hc]]
            rw [letB p1.1, hkL]
            refine And.intro (fun q => absurd q (by decide)) (fun _ => ?_)
            show P 17 [some tM, some (.inr (.inr (some (.inl 213)))), some (iv (nI k + nI 1)), none] [] s3
            rw [nI_add]
            exact ih (k+1) (by omega) (by omega)
        show P 17 [some tM, some (.inr (.inr (some (.inl 213)))), some (iv (gI s2 200 2)), none] [] s2
        rw [p3]
        exact at17 (wEn tp a - a) a (by have := endE_ge isL tp a; show a + (endE isL tp a - a) = endE isL tp a; omega) (Nat.le_refl _)
      · have hpr : prLD tp a = true := pr_eq p3 p7 p9 (by omega) (by omega) q
        exact no s2 (by show kw tp wAt a = false; unfold kw; rw [hL, hpr]; rfl) S1 O1
theorem c_takes_213 (tp : List Nat) (S : Pos) (h : PX tp S σ) (hw : Wd 213 wAt σ) : MC G g l (d+3) mX6_takes [tM, .inr (.inr (some (.inl 213)))] σ (fun r t => r = some (iv (bI (kwS tp wAt S))) ∧ mS [2, 4] [] σ t ∧ PX tp (takS tp wAt S) t ∧ (kwS tp wAt S = false → PE tp S t)) := by
  refine MC0 tX6_takes rfl okX6_takes rfl rfl rfl rfl (fun P => ?_)
  refine mcall (c_isHere_213 G g l d σ tp S h hw) (fun r s1 h8 => ?_)
  obtain ⟨rfl, S1, E1⟩ := h8
  cases hk : kwS tp wAt S with
  | false => exact And.intro (fun q => absurd rfl q) (fun _ => ⟨nar0, rfl, S1.mono rfl rfl, takS_no hk E1, fun _ => E1⟩)
  | true =>
    refine And.intro (fun _ => ⟨nar1, rfl, ((S1.mono rfl rfl).f rfl).f rfl, ?_, fun q => by cases q⟩) (fun q => absurd q (by decide))
    exact takS_yes (n := 2) hk E1 rfl
theorem c_asks_213 (tp : List Nat) (S : Pos) (h : PX tp S σ) (hw : Wd 213 wAt σ) : MC G g l (d+4) mX6_asks [tM, .inr (.inr (some (.inl 213)))] σ (fun r t => r = none ∧ mS [2, 4, 5, 6] [] σ t ∧ PX tp (match S with
      | .ok a => askW tp wAt a
      | .error f => .error f) t) := by
  refine MC0 tX6_asks rfl okX6_asks rfl rfl rfl rfl (fun P => ?_)
  cases S with
  | error f => exact And.intro (fun _ => ⟨rfl, mS.rf, h⟩) (fun q => absurd q (pf_bad h))
  | ok a =>
    have p2 := h.elim (fun a' h => h.2.1)
    refine And.intro (fun q => absurd p2 q) (fun _ => ?_)
    refine mcall (c_takes_213 G g l d σ tp (.ok a) h hw) (fun r s1 h8 => ?_)
    obtain ⟨rfl, S1, X1, E1⟩ := h8
    cases hk : kwS tp wAt (.ok a) with
    | true =>
      refine And.intro (fun _ => ⟨rfl, S1.mono rfl rfl, ?_⟩) (fun q => absurd q (by decide))
      have hk0 : kw tp wAt a = true := hk
      show PX tp (askW tp wAt a) s1
      unfold askW
      rw [if_pos hk0]
      have : takS tp wAt (.ok a) = .ok (skp tp (a + wAt.length)) := if_pos hk0
      rw [this] at X1
      exact X1
    | false =>
      have hk0 : kw tp wAt a = false := hk
      have E2 : PO tp a a s1 := E1 hk
      refine And.intro (fun q => absurd rfl q) (fun _ => ?_)
      have hl := E2.1.len
      have ha := E2.2.2.2.2.1
      refine mcall (c_fail G g l (d+2) s1 tp (.ok a) ⟨a, E2⟩ _ _ 1 a rfl E2.2.2.1 (by omega) (by omega) (by omega)) (fun r s2 h8 => ?_)
      obtain ⟨rfl, S2, X2⟩ := h8
      refine ⟨rfl, (S1.mono rfl rfl).tr (S2.mono rfl rfl), ?_⟩
      show PX tp (askW tp wAt a) s2
      unfold askW
      rw [if_neg (by rw [hk0]; decide)]
      exact X2
set_option maxHeartbeats 1000000 in
theorem c_isHere_214 (tp : List Nat) (S : Pos) (h : PX tp S σ) (hw : Wd 214 wBegin σ) : MC G g l (d+2) mX6_isHere [tM, .inr (.inr (some (.inl 214)))] σ (fun r t => r = some (iv (bI (kwS tp wBegin S))) ∧ mS [2] [] σ t ∧ PE tp S t) := by
  refine MC1 tX6_isHere [12, 17, 29, 40] rfl okX6_isHere rfl rfl rfl rfl (fun P hP => ?_)
  have no : ∀ τ, kwS tp wBegin S = false → mS [2] [] σ τ → PE tp S τ → P 12 [some tM, some (.inr (.inr (some (.inl 214)))), none, none] [] τ := fun τ e hS hE => hP _ _ _ _ ⟨nar0, by rw [e]; rfl, hS, hE⟩
  refine hP _ _ _ _ ?_
  cases S with
  | error f =>
    refine And.intro (fun _ => no σ rfl mS.rf h) (fun q => absurd q (pf_bad h))
  | ok a =>
    obtain ⟨a', h9⟩ := h
    refine And.intro (fun q => absurd h9.2.1 q) (fun _ => ?_)
    refine mcall (c_look G g l d σ tp a a' h9) (fun r s1 h8 => ?_)
    obtain ⟨rfl, S1, O1⟩ := h8
    have hw1 : Wd 214 wBegin s1 := hw.keep S1 rfl rfl
    obtain ⟨p1, p2, p3, p4, p5, p6, e, p7, p8, p9, p10⟩ := O1
    have O1 : PO tp a a s1 := ⟨p1, p2, p3, p4, p5, p6, e, p7, p8, p9, p10⟩
    have hl := p1.len
    refine mcall (c_isLetter G g l d s1 (byI tp a)) (fun r s2 h8 => ?_)
    obtain ⟨rfl, rfl⟩ := h8
    rw [letB p1.1 a]
    cases hL : isAt isL tp a with
    | false => exact And.intro (fun _ => no s2 (by show kw tp wBegin a = false; unfold kw; rw [hL]; rfl) S1 O1) (fun q => absurd rfl q)
    | true =>
      refine And.intro (fun q => absurd q (by decide)) (fun _ => And.intro (fun q => ?_) (fun q => ?_))
      · have hpr : prLD tp a = false := pr_ne p3 p7 p9 (by omega) (by omega) q
        have at17 : ∀ (m k : Nat), k + m = wEn tp a → a ≤ k → P 17 [some tM, some (.inr (.inr (some (.inl 214)))), some (iv (nI k)), none] [] s2 := by
          intro m
          have hwl : wEn tp a ≤ tp.length := endE_le isL p5
          have h3 : gI s2 200 3 = nI tp.length := p1.2
          have fin : ∀ k, k = wEn tp a → P 17 [some tM, some (.inr (.inr (some (.inl 214)))), some (iv (nI k)), none] [] s2 := by
            intro k hk
            subst hk
            have aw : a ≤ wEn tp a := endE_ge isL tp a
            have ed : nI (wEn tp a) - gI s2 200 2 = nI (wEn tp a - a) := by rw [p3]; exact nI_s1 _ _ aw
            have hsl := sub_len (tp := tp) (a := a) hwl
            have kwe : kw tp wBegin a = decide (sub_ tp a (wEn tp a) = wBegin) := by unfold kw; rw [hL, hpr]; rfl
            have at29 : P 29 [some tM, some (.inr (.inr (some (.inl 214)))), some (iv (nI (wEn tp a))), none] [] s2 := by
              refine hP _ _ _ _ (And.intro (fun q => ?_) (fun q => ⟨nar0, ?_, S1, O1⟩))
              · have q0 : nI (wEn tp a) - gI s2 200 2 = nI 5 := q
                rw [ed, nI_eq (by omega) (by omega)] at q0
                have at40 : ∀ (m i : Nat), i + m = 5 → (∀ j, j < i → tp[a + j]? = wBegin[j]?) → P 40 [some tM, some (.inr (.inr (some (.inl 214)))), some (iv (nI (wEn tp a))), some (iv (nI i))] [] s2 := by
                  intro m
                  induction m with
                  | zero =>
                    intro i hi hall
                    refine hP _ _ _ _ (And.intro (fun _ => ⟨nar1, ?_, S1, O1⟩) (fun q => absurd (show nI 5 ≤ nI i from nI_le (by omega) (by omega)) q))
                    rw [show kwS tp wBegin (.ok a) = true from ?_]
                    · rfl
                    · show kw tp wBegin a = true
                      rw [kwe]
                      refine decide_eq_true (List.ext_getElem? (fun j => ?_))
                      by_cases hj : j < 5
                      · rw [sub_get (by omega)]; exact hall j (by omega)
                      · rw [List.getElem?_eq_none (by omega), List.getElem?_eq_none (show wBegin.length ≤ j by show 5 ≤ j; omega)]
                  | succ m ih =>
                    intro i hi hall
                    have hil : a + i < tp.length := by omega
                    obtain ⟨c, hc⟩ : ∃ c, tp[a + i]? = some c := ⟨_, List.getElem?_eq_getElem hil⟩
                    obtain ⟨u, hu⟩ : ∃ u, wBegin[i]? = some u := ⟨_, List.getElem?_eq_getElem (show i < wBegin.length by show i < 5; omega)⟩
                    have hv := p1.1.2 _ c hc
                    have hu2 := hw1.1 i u hu
                    have ei : gI s2 200 2 + nI i = nI (a + i) := by rw [p3, nI_add]
                    have g1 : gI s2 201 (gI s2 200 2 + nI i).toNatClampNeg = nI c := by rw [ei, clN (by omega), hv.1]
                    have g2 : gI s2 214 (nI i).toNatClampNeg = nI u := by rw [clN (by omega), hu2]
                    have hub := hw1.2 u (List.mem_of_getElem? hu)
                    refine hP _ _ _ _ (And.intro (fun q => absurd q (show ¬ nI 5 ≤ nI i from nI_ge (by omega) (by omega))) (fun _ => And.intro (show vp_in (gI s2 200 2 + nI i) 1600 from by rw [ei]; exact vinN (by omega) (by decide)) (And.intro (show vp_in (nI i) 5 from vinN (by omega) (by decide)) (And.intro (fun q => ?_) (fun q => ⟨nar0, ?_, S1, O1⟩)))))
                    · have q1 : gI s2 201 (gI s2 200 2 + nI i).toNatClampNeg = gI s2 214 (nI i).toNatClampNeg := q
                      rw [g1, g2, nI_eq (by omega) (by omega)] at q1
                      show P 40 [some tM, some (.inr (.inr (some (.inl 214)))), some (iv (nI (wEn tp a))), some (iv (nI i + nI 1))] [] s2
                      rw [nI_add]
                      refine ih (i+1) (by omega) (fun j hj => ?_)
                      by_cases ej : j = i
                      · rw [ej, hc, hu, q1]
                      · exact hall j (by omega)
                    · have q1 : ¬ gI s2 201 (gI s2 200 2 + nI i).toNatClampNeg = gI s2 214 (nI i).toNatClampNeg := q
                      rw [g1, g2, nI_eq (by omega) (by omega)] at q1
                      rw [show kwS tp wBegin (.ok a) = false from ?_]
                      · rfl
                      · show kw tp wBegin a = false
                        rw [kwe]
                        refine decide_eq_false (fun e9 => q1 ?_)
                        have := sub_get (tp := tp) (a := a) (b := wEn tp a) (i := i) (by omega)
                        rw [e9, hc, hu] at this
                        cases this
                        rfl
                exact at40 5 0 (by omega) (fun j hj => absurd hj (Nat.not_lt_zero _))
              · have q0 : ¬ nI (wEn tp a) - gI s2 200 2 = nI 5 := q
                rw [ed, nI_eq (by omega) (by omega)] at q0
                rw [show kwS tp wBegin (.ok a) = false from ?_]
                · rfl
                · show kw tp wBegin a = false
                  rw [kwe]
                  refine decide_eq_false (fun e9 => q0 ?_)
                  rw [← hsl, e9]
                  rfl
            refine hP _ _ _ _ (And.intro (fun _ => at29) (fun q => ?_))
            have q0 : ¬ gI s2 200 3 ≤ nI (wEn tp a) := q
            rw [h3, nI_leI (by omega) (by omega)] at q0
            obtain ⟨c, hc⟩ : ∃ c, tp[wEn tp a]? = some c := ⟨_, List.getElem?_eq_getElem (by omega)⟩
            have hv := p1.1.2 _ c hc
            refine And.intro (show vp_in (nI (wEn tp a)) 1600 from vinN (by omega) (by decide)) ?_
            refine mcall (c_isLetter G g l d s2 _) (fun r s3 h8 => ?_)
            obtain ⟨rfl, rfl⟩ := h8
            rw [show gI s3 201 (nI (wEn tp a)).toNatClampNeg = byI tp (wEn tp a) by rw [clN (by omega), hv.1]; unfold byI; rw [hc]]
            rw [letB p1.1, show isAt isL tp (wEn tp a) = false from endE_end isL tp a]
            exact And.intro (fun _ => at29) (fun q => absurd rfl q)
          induction m with
          | zero => intro k hk hak; exact fin k (by omega)
          | succ m ih =>
            intro k hk hak
            have hkL : isAt isL tp k = true := endE_in (p := isL) (a := a) hak (by show k < wEn tp a; omega)
            have hkl := isAt_lt hkL
            obtain ⟨c, hc⟩ : ∃ c, tp[k]? = some c := ⟨_, List.getElem?_eq_getElem hkl⟩
            have hv := p1.1.2 _ c hc
            refine hP _ _ _ _ (And.intro (fun q => ?_) (fun _ => And.intro (show vp_in (nI k) 1600 from vinN (by omega) (by decide)) ?_))
            · have q0 : gI s2 200 3 ≤ nI k := q
              rw [h3, nI_leI (by omega) (by omega)] at q0
              omega
            refine mcall (c_isLetter G g l d s2 _) (fun r s3 h8 => ?_)
            obtain ⟨rfl, rfl⟩ := h8
            rw [show gI s3 201 (nI k).toNatClampNeg = byI tp k by rw [clN (by omega), hv.1]; unfold byI; rw [hc]]
            rw [letB p1.1, hkL]
            refine And.intro (fun q => absurd q (by decide)) (fun _ => ?_)
            show P 17 [some tM, some (.inr (.inr (some (.inl 214)))), some (iv (nI k + nI 1)), none] [] s3
            rw [nI_add]
            exact ih (k+1) (by omega) (by omega)
        show P 17 [some tM, some (.inr (.inr (some (.inl 214)))), some (iv (gI s2 200 2)), none] [] s2
        rw [p3]
        exact at17 (wEn tp a - a) a (by have := endE_ge isL tp a; show a + (endE isL tp a - a) = endE isL tp a; omega) (Nat.le_refl _)
      · have hpr : prLD tp a = true := pr_eq p3 p7 p9 (by omega) (by omega) q
        exact no s2 (by show kw tp wBegin a = false; unfold kw; rw [hL, hpr]; rfl) S1 O1
theorem c_takes_214 (tp : List Nat) (S : Pos) (h : PX tp S σ) (hw : Wd 214 wBegin σ) : MC G g l (d+3) mX6_takes [tM, .inr (.inr (some (.inl 214)))] σ (fun r t => r = some (iv (bI (kwS tp wBegin S))) ∧ mS [2, 4] [] σ t ∧ PX tp (takS tp wBegin S) t ∧ (kwS tp wBegin S = false → PE tp S t)) := by
  refine MC0 tX6_takes rfl okX6_takes rfl rfl rfl rfl (fun P => ?_)
  refine mcall (c_isHere_214 G g l d σ tp S h hw) (fun r s1 h8 => ?_)
  obtain ⟨rfl, S1, E1⟩ := h8
  cases hk : kwS tp wBegin S with
  | false => exact And.intro (fun q => absurd rfl q) (fun _ => ⟨nar0, rfl, S1.mono rfl rfl, takS_no hk E1, fun _ => E1⟩)
  | true =>
    refine And.intro (fun _ => ⟨nar1, rfl, ((S1.mono rfl rfl).f rfl).f rfl, ?_, fun q => by cases q⟩) (fun q => absurd q (by decide))
    exact takS_yes (n := 5) hk E1 rfl
theorem c_asks_214 (tp : List Nat) (S : Pos) (h : PX tp S σ) (hw : Wd 214 wBegin σ) : MC G g l (d+4) mX6_asks [tM, .inr (.inr (some (.inl 214)))] σ (fun r t => r = none ∧ mS [2, 4, 5, 6] [] σ t ∧ PX tp (match S with
      | .ok a => askW tp wBegin a
      | .error f => .error f) t) := by
  refine MC0 tX6_asks rfl okX6_asks rfl rfl rfl rfl (fun P => ?_)
  cases S with
  | error f => exact And.intro (fun _ => ⟨rfl, mS.rf, h⟩) (fun q => absurd q (pf_bad h))
  | ok a =>
    have p2 := h.elim (fun a' h => h.2.1)
    refine And.intro (fun q => absurd p2 q) (fun _ => ?_)
    refine mcall (c_takes_214 G g l d σ tp (.ok a) h hw) (fun r s1 h8 => ?_)
    obtain ⟨rfl, S1, X1, E1⟩ := h8
    cases hk : kwS tp wBegin (.ok a) with
    | true =>
      refine And.intro (fun _ => ⟨rfl, S1.mono rfl rfl, ?_⟩) (fun q => absurd q (by decide))
      have hk0 : kw tp wBegin a = true := hk
      show PX tp (askW tp wBegin a) s1
      unfold askW
      rw [if_pos hk0]
      have : takS tp wBegin (.ok a) = .ok (skp tp (a + wBegin.length)) := if_pos hk0
      rw [this] at X1
      exact X1
    | false =>
      have hk0 : kw tp wBegin a = false := hk
      have E2 : PO tp a a s1 := E1 hk
      refine And.intro (fun q => absurd rfl q) (fun _ => ?_)
      have hl := E2.1.len
      have ha := E2.2.2.2.2.1
      refine mcall (c_fail G g l (d+2) s1 tp (.ok a) ⟨a, E2⟩ _ _ 1 a rfl E2.2.2.1 (by omega) (by omega) (by omega)) (fun r s2 h8 => ?_)
      obtain ⟨rfl, S2, X2⟩ := h8
      refine ⟨rfl, (S1.mono rfl rfl).tr (S2.mono rfl rfl), ?_⟩
      show PX tp (askW tp wBegin a) s2
      unfold askW
      rw [if_neg (by rw [hk0]; decide)]
      exact X2
set_option maxHeartbeats 1000000 in
theorem c_isHere_215 (tp : List Nat) (S : Pos) (h : PX tp S σ) (hw : Wd 215 wTide σ) : MC G g l (d+2) mX6_isHere [tM, .inr (.inr (some (.inl 215)))] σ (fun r t => r = some (iv (bI (kwS tp wTide S))) ∧ mS [2] [] σ t ∧ PE tp S t) := by
  refine MC1 tX6_isHere [12, 17, 29, 40] rfl okX6_isHere rfl rfl rfl rfl (fun P hP => ?_)
  have no : ∀ τ, kwS tp wTide S = false → mS [2] [] σ τ → PE tp S τ → P 12 [some tM, some (.inr (.inr (some (.inl 215)))), none, none] [] τ := fun τ e hS hE => hP _ _ _ _ ⟨nar0, by rw [e]; rfl, hS, hE⟩
  refine hP _ _ _ _ ?_
  cases S with
  | error f =>
    refine And.intro (fun _ => no σ rfl mS.rf h) (fun q => absurd q (pf_bad h))
  | ok a =>
    obtain ⟨a', h9⟩ := h
    refine And.intro (fun q => absurd h9.2.1 q) (fun _ => ?_)
    refine mcall (c_look G g l d σ tp a a' h9) (fun r s1 h8 => ?_)
    obtain ⟨rfl, S1, O1⟩ := h8
    have hw1 : Wd 215 wTide s1 := hw.keep S1 rfl rfl
    obtain ⟨p1, p2, p3, p4, p5, p6, e, p7, p8, p9, p10⟩ := O1
    have O1 : PO tp a a s1 := ⟨p1, p2, p3, p4, p5, p6, e, p7, p8, p9, p10⟩
    have hl := p1.len
    refine mcall (c_isLetter G g l d s1 (byI tp a)) (fun r s2 h8 => ?_)
    obtain ⟨rfl, rfl⟩ := h8
    rw [letB p1.1 a]
    cases hL : isAt isL tp a with
    | false => exact And.intro (fun _ => no s2 (by show kw tp wTide a = false; unfold kw; rw [hL]; rfl) S1 O1) (fun q => absurd rfl q)
    | true =>
      refine And.intro (fun q => absurd q (by decide)) (fun _ => And.intro (fun q => ?_) (fun q => ?_))
      · have hpr : prLD tp a = false := pr_ne p3 p7 p9 (by omega) (by omega) q
        have at17 : ∀ (m k : Nat), k + m = wEn tp a → a ≤ k → P 17 [some tM, some (.inr (.inr (some (.inl 215)))), some (iv (nI k)), none] [] s2 := by
          intro m
          have hwl : wEn tp a ≤ tp.length := endE_le isL p5
          have h3 : gI s2 200 3 = nI tp.length := p1.2
          have fin : ∀ k, k = wEn tp a → P 17 [some tM, some (.inr (.inr (some (.inl 215)))), some (iv (nI k)), none] [] s2 := by
            intro k hk
            subst hk
            have aw : a ≤ wEn tp a := endE_ge isL tp a
            have ed : nI (wEn tp a) - gI s2 200 2 = nI (wEn tp a - a) := by rw [p3]; exact nI_s1 _ _ aw
            have hsl := sub_len (tp := tp) (a := a) hwl
            have kwe : kw tp wTide a = decide (sub_ tp a (wEn tp a) = wTide) := by unfold kw; rw [hL, hpr]; rfl
            have at29 : P 29 [some tM, some (.inr (.inr (some (.inl 215)))), some (iv (nI (wEn tp a))), none] [] s2 := by
              refine hP _ _ _ _ (And.intro (fun q => ?_) (fun q => ⟨nar0, ?_, S1, O1⟩))
              · have q0 : nI (wEn tp a) - gI s2 200 2 = nI 4 := q
                rw [ed, nI_eq (by omega) (by omega)] at q0
                have at40 : ∀ (m i : Nat), i + m = 4 → (∀ j, j < i → tp[a + j]? = wTide[j]?) → P 40 [some tM, some (.inr (.inr (some (.inl 215)))), some (iv (nI (wEn tp a))), some (iv (nI i))] [] s2 := by
                  intro m
                  induction m with
                  | zero =>
                    intro i hi hall
                    refine hP _ _ _ _ (And.intro (fun _ => ⟨nar1, ?_, S1, O1⟩) (fun q => absurd (show nI 4 ≤ nI i from nI_le (by omega) (by omega)) q))
                    rw [show kwS tp wTide (.ok a) = true from ?_]
                    · rfl
                    · show kw tp wTide a = true
                      rw [kwe]
                      refine decide_eq_true (List.ext_getElem? (fun j => ?_))
                      by_cases hj : j < 4
                      · rw [sub_get (by omega)]; exact hall j (by omega)
                      · rw [List.getElem?_eq_none (by omega), List.getElem?_eq_none (show wTide.length ≤ j by show 4 ≤ j; omega)]
                  | succ m ih =>
                    intro i hi hall
                    have hil : a + i < tp.length := by omega
                    obtain ⟨c, hc⟩ : ∃ c, tp[a + i]? = some c := ⟨_, List.getElem?_eq_getElem hil⟩
                    obtain ⟨u, hu⟩ : ∃ u, wTide[i]? = some u := ⟨_, List.getElem?_eq_getElem (show i < wTide.length by show i < 4; omega)⟩
                    have hv := p1.1.2 _ c hc
                    have hu2 := hw1.1 i u hu
                    have ei : gI s2 200 2 + nI i = nI (a + i) := by rw [p3, nI_add]
                    have g1 : gI s2 201 (gI s2 200 2 + nI i).toNatClampNeg = nI c := by rw [ei, clN (by omega), hv.1]
                    have g2 : gI s2 215 (nI i).toNatClampNeg = nI u := by rw [clN (by omega), hu2]
                    have hub := hw1.2 u (List.mem_of_getElem? hu)
                    refine hP _ _ _ _ (And.intro (fun q => absurd q (show ¬ nI 4 ≤ nI i from nI_ge (by omega) (by omega))) (fun _ => And.intro (show vp_in (gI s2 200 2 + nI i) 1600 from by rw [ei]; exact vinN (by omega) (by decide)) (And.intro (show vp_in (nI i) 4 from vinN (by omega) (by decide)) (And.intro (fun q => ?_) (fun q => ⟨nar0, ?_, S1, O1⟩)))))
                    · have q1 : gI s2 201 (gI s2 200 2 + nI i).toNatClampNeg = gI s2 215 (nI i).toNatClampNeg := q
                      rw [g1, g2, nI_eq (by omega) (by omega)] at q1
                      show P 40 [some tM, some (.inr (.inr (some (.inl 215)))), some (iv (nI (wEn tp a))), some (iv (nI i + nI 1))] [] s2
                      rw [nI_add]
                      refine ih (i+1) (by omega) (fun j hj => ?_)
                      by_cases ej : j = i
                      · rw [ej, hc, hu, q1]
                      · exact hall j (by omega)
                    · have q1 : ¬ gI s2 201 (gI s2 200 2 + nI i).toNatClampNeg = gI s2 215 (nI i).toNatClampNeg := q
                      rw [g1, g2, nI_eq (by omega) (by omega)] at q1
                      rw [show kwS tp wTide (.ok a) = false from ?_]
                      · rfl
                      · show kw tp wTide a = false
                        rw [kwe]
                        refine decide_eq_false (fun e9 => q1 ?_)
                        have := sub_get (tp := tp) (a := a) (b := wEn tp a) (i := i) (by omega)
                        rw [e9, hc, hu] at this
                        cases this
                        rfl
                exact at40 4 0 (by omega) (fun j hj => absurd hj (Nat.not_lt_zero _))
              · have q0 : ¬ nI (wEn tp a) - gI s2 200 2 = nI 4 := q
                rw [ed, nI_eq (by omega) (by omega)] at q0
                rw [show kwS tp wTide (.ok a) = false from ?_]
                · rfl
                · show kw tp wTide a = false
                  rw [kwe]
                  refine decide_eq_false (fun e9 => q0 ?_)
                  rw [← hsl, e9]
                  rfl
            refine hP _ _ _ _ (And.intro (fun _ => at29) (fun q => ?_))
            have q0 : ¬ gI s2 200 3 ≤ nI (wEn tp a) := q
            rw [h3, nI_leI (by omega) (by omega)] at q0
            obtain ⟨c, hc⟩ : ∃ c, tp[wEn tp a]? = some c := ⟨_, List.getElem?_eq_getElem (by omega)⟩
            have hv := p1.1.2 _ c hc
            refine And.intro (show vp_in (nI (wEn tp a)) 1600 from vinN (by omega) (by decide)) ?_
            refine mcall (c_isLetter G g l d s2 _) (fun r s3 h8 => ?_)
            obtain ⟨rfl, rfl⟩ := h8
            rw [show gI s3 201 (nI (wEn tp a)).toNatClampNeg = byI tp (wEn tp a) by rw [clN (by omega), hv.1]; unfold byI; rw [hc]]
            rw [letB p1.1, show isAt isL tp (wEn tp a) = false from endE_end isL tp a]
            exact And.intro (fun _ => at29) (fun q => absurd rfl q)
          induction m with
          | zero => intro k hk hak; exact fin k (by omega)
          | succ m ih =>
            intro k hk hak
            have hkL : isAt isL tp k = true := endE_in (p := isL) (a := a) hak (by show k < wEn tp a; omega)
            have hkl := isAt_lt hkL
            obtain ⟨c, hc⟩ : ∃ c, tp[k]? = some c := ⟨_, List.getElem?_eq_getElem hkl⟩
            have hv := p1.1.2 _ c hc
            refine hP _ _ _ _ (And.intro (fun q => ?_) (fun _ => And.intro (show vp_in (nI k) 1600 from vinN (by omega) (by decide)) ?_))
            · have q0 : gI s2 200 3 ≤ nI k := q
              rw [h3, nI_leI (by omega) (by omega)] at q0
              omega
            refine mcall (c_isLetter G g l d s2 _) (fun r s3 h8 => ?_)
            obtain ⟨rfl, rfl⟩ := h8
            rw [show gI s3 201 (nI k).toNatClampNeg = byI tp k by rw [clN (by omega), hv.1]; unfold byI; rw [hc]]
            rw [letB p1.1, hkL]
            refine And.intro (fun q => absurd q (by decide)) (fun _ => ?_)
            show P 17 [some tM, some (.inr (.inr (some (.inl 215)))), some (iv (nI k + nI 1)), none] [] s3
            rw [nI_add]
            exact ih (k+1) (by omega) (by omega)
        show P 17 [some tM, some (.inr (.inr (some (.inl 215)))), some (iv (gI s2 200 2)), none] [] s2
        rw [p3]
        exact at17 (wEn tp a - a) a (by have := endE_ge isL tp a; show a + (endE isL tp a - a) = endE isL tp a; omega) (Nat.le_refl _)
      · have hpr : prLD tp a = true := pr_eq p3 p7 p9 (by omega) (by omega) q
        exact no s2 (by show kw tp wTide a = false; unfold kw; rw [hL, hpr]; rfl) S1 O1
theorem c_takes_215 (tp : List Nat) (S : Pos) (h : PX tp S σ) (hw : Wd 215 wTide σ) : MC G g l (d+3) mX6_takes [tM, .inr (.inr (some (.inl 215)))] σ (fun r t => r = some (iv (bI (kwS tp wTide S))) ∧ mS [2, 4] [] σ t ∧ PX tp (takS tp wTide S) t ∧ (kwS tp wTide S = false → PE tp S t)) := by
  refine MC0 tX6_takes rfl okX6_takes rfl rfl rfl rfl (fun P => ?_)
  refine mcall (c_isHere_215 G g l d σ tp S h hw) (fun r s1 h8 => ?_)
  obtain ⟨rfl, S1, E1⟩ := h8
  cases hk : kwS tp wTide S with
  | false => exact And.intro (fun q => absurd rfl q) (fun _ => ⟨nar0, rfl, S1.mono rfl rfl, takS_no hk E1, fun _ => E1⟩)
  | true =>
    refine And.intro (fun _ => ⟨nar1, rfl, ((S1.mono rfl rfl).f rfl).f rfl, ?_, fun q => by cases q⟩) (fun q => absurd q (by decide))
    exact takS_yes (n := 4) hk E1 rfl
theorem c_asks_215 (tp : List Nat) (S : Pos) (h : PX tp S σ) (hw : Wd 215 wTide σ) : MC G g l (d+4) mX6_asks [tM, .inr (.inr (some (.inl 215)))] σ (fun r t => r = none ∧ mS [2, 4, 5, 6] [] σ t ∧ PX tp (match S with
      | .ok a => askW tp wTide a
      | .error f => .error f) t) := by
  refine MC0 tX6_asks rfl okX6_asks rfl rfl rfl rfl (fun P => ?_)
  cases S with
  | error f => exact And.intro (fun _ => ⟨rfl, mS.rf, h⟩) (fun q => absurd q (pf_bad h))
  | ok a =>
    have p2 := h.elim (fun a' h => h.2.1)
    refine And.intro (fun q => absurd p2 q) (fun _ => ?_)
    refine mcall (c_takes_215 G g l d σ tp (.ok a) h hw) (fun r s1 h8 => ?_)
    obtain ⟨rfl, S1, X1, E1⟩ := h8
    cases hk : kwS tp wTide (.ok a) with
    | true =>
      refine And.intro (fun _ => ⟨rfl, S1.mono rfl rfl, ?_⟩) (fun q => absurd q (by decide))
      have hk0 : kw tp wTide a = true := hk
      show PX tp (askW tp wTide a) s1
      unfold askW
      rw [if_pos hk0]
      have : takS tp wTide (.ok a) = .ok (skp tp (a + wTide.length)) := if_pos hk0
      rw [this] at X1
      exact X1
    | false =>
      have hk0 : kw tp wTide a = false := hk
      have E2 : PO tp a a s1 := E1 hk
      refine And.intro (fun q => absurd rfl q) (fun _ => ?_)
      have hl := E2.1.len
      have ha := E2.2.2.2.2.1
      refine mcall (c_fail G g l (d+2) s1 tp (.ok a) ⟨a, E2⟩ _ _ 1 a rfl E2.2.2.1 (by omega) (by omega) (by omega)) (fun r s2 h8 => ?_)
      obtain ⟨rfl, S2, X2⟩ := h8
      refine ⟨rfl, (S1.mono rfl rfl).tr (S2.mono rfl rfl), ?_⟩
      show PX tp (askW tp wTide a) s2
      unfold askW
      rw [if_neg (by rw [hk0]; decide)]
      exact X2
set_option maxHeartbeats 1000000 in
theorem c_isHere_216 (tp : List Nat) (S : Pos) (h : PX tp S σ) (hw : Wd 216 wClock σ) : MC G g l (d+2) mX6_isHere [tM, .inr (.inr (some (.inl 216)))] σ (fun r t => r = some (iv (bI (kwS tp wClock S))) ∧ mS [2] [] σ t ∧ PE tp S t) := by
  refine MC1 tX6_isHere [12, 17, 29, 40] rfl okX6_isHere rfl rfl rfl rfl (fun P hP => ?_)
  have no : ∀ τ, kwS tp wClock S = false → mS [2] [] σ τ → PE tp S τ → P 12 [some tM, some (.inr (.inr (some (.inl 216)))), none, none] [] τ := fun τ e hS hE => hP _ _ _ _ ⟨nar0, by rw [e]; rfl, hS, hE⟩
  refine hP _ _ _ _ ?_
  cases S with
  | error f =>
    refine And.intro (fun _ => no σ rfl mS.rf h) (fun q => absurd q (pf_bad h))
  | ok a =>
    obtain ⟨a', h9⟩ := h
    refine And.intro (fun q => absurd h9.2.1 q) (fun _ => ?_)
    refine mcall (c_look G g l d σ tp a a' h9) (fun r s1 h8 => ?_)
    obtain ⟨rfl, S1, O1⟩ := h8
    have hw1 : Wd 216 wClock s1 := hw.keep S1 rfl rfl
    obtain ⟨p1, p2, p3, p4, p5, p6, e, p7, p8, p9, p10⟩ := O1
    have O1 : PO tp a a s1 := ⟨p1, p2, p3, p4, p5, p6, e, p7, p8, p9, p10⟩
    have hl := p1.len
    refine mcall (c_isLetter G g l d s1 (byI tp a)) (fun r s2 h8 => ?_)
    obtain ⟨rfl, rfl⟩ := h8
    rw [letB p1.1 a]
    cases hL : isAt isL tp a with
    | false => exact And.intro (fun _ => no s2 (by show kw tp wClock a = false; unfold kw; rw [hL]; rfl) S1 O1) (fun q => absurd rfl q)
    | true =>
      refine And.intro (fun q => absurd q (by decide)) (fun _ => And.intro (fun q => ?_) (fun q => ?_))
      · have hpr : prLD tp a = false := pr_ne p3 p7 p9 (by omega) (by omega) q
        have at17 : ∀ (m k : Nat), k + m = wEn tp a → a ≤ k → P 17 [some tM, some (.inr (.inr (some (.inl 216)))), some (iv (nI k)), none] [] s2 := by
          intro m
          have hwl : wEn tp a ≤ tp.length := endE_le isL p5
          have h3 : gI s2 200 3 = nI tp.length := p1.2
          have fin : ∀ k, k = wEn tp a → P 17 [some tM, some (.inr (.inr (some (.inl 216)))), some (iv (nI k)), none] [] s2 := by
            intro k hk
            subst hk
            have aw : a ≤ wEn tp a := endE_ge isL tp a
            have ed : nI (wEn tp a) - gI s2 200 2 = nI (wEn tp a - a) := by rw [p3]; exact nI_s1 _ _ aw
            have hsl := sub_len (tp := tp) (a := a) hwl
            have kwe : kw tp wClock a = decide (sub_ tp a (wEn tp a) = wClock) := by unfold kw; rw [hL, hpr]; rfl
            have at29 : P 29 [some tM, some (.inr (.inr (some (.inl 216)))), some (iv (nI (wEn tp a))), none] [] s2 := by
              refine hP _ _ _ _ (And.intro (fun q => ?_) (fun q => ⟨nar0, ?_, S1, O1⟩))
              · have q0 : nI (wEn tp a) - gI s2 200 2 = nI 5 := q
                rw [ed, nI_eq (by omega) (by omega)] at q0
                have at40 : ∀ (m i : Nat), i + m = 5 → (∀ j, j < i → tp[a + j]? = wClock[j]?) → P 40 [some tM, some (.inr (.inr (some (.inl 216)))), some (iv (nI (wEn tp a))), some (iv (nI i))] [] s2 := by
                  intro m
                  induction m with
                  | zero =>
                    intro i hi hall
                    refine hP _ _ _ _ (And.intro (fun _ => ⟨nar1, ?_, S1, O1⟩) (fun q => absurd (show nI 5 ≤ nI i from nI_le (by omega) (by omega)) q))
                    rw [show kwS tp wClock (.ok a) = true from ?_]
                    · rfl
                    · show kw tp wClock a = true
                      rw [kwe]
                      refine decide_eq_true (List.ext_getElem? (fun j => ?_))
                      by_cases hj : j < 5
                      · rw [sub_get (by omega)]; exact hall j (by omega)
                      · rw [List.getElem?_eq_none (by omega), List.getElem?_eq_none (show wClock.length ≤ j by show 5 ≤ j; omega)]
                  | succ m ih =>
                    intro i hi hall
                    have hil : a + i < tp.length := by omega
                    obtain ⟨c, hc⟩ : ∃ c, tp[a + i]? = some c := ⟨_, List.getElem?_eq_getElem hil⟩
                    obtain ⟨u, hu⟩ : ∃ u, wClock[i]? = some u := ⟨_, List.getElem?_eq_getElem (show i < wClock.length by show i < 5; omega)⟩
                    have hv := p1.1.2 _ c hc
                    have hu2 := hw1.1 i u hu
                    have ei : gI s2 200 2 + nI i = nI (a + i) := by rw [p3, nI_add]
                    have g1 : gI s2 201 (gI s2 200 2 + nI i).toNatClampNeg = nI c := by rw [ei, clN (by omega), hv.1]
                    have g2 : gI s2 216 (nI i).toNatClampNeg = nI u := by rw [clN (by omega), hu2]
                    have hub := hw1.2 u (List.mem_of_getElem? hu)
                    refine hP _ _ _ _ (And.intro (fun q => absurd q (show ¬ nI 5 ≤ nI i from nI_ge (by omega) (by omega))) (fun _ => And.intro (show vp_in (gI s2 200 2 + nI i) 1600 from by rw [ei]; exact vinN (by omega) (by decide)) (And.intro (show vp_in (nI i) 5 from vinN (by omega) (by decide)) (And.intro (fun q => ?_) (fun q => ⟨nar0, ?_, S1, O1⟩)))))
                    · have q1 : gI s2 201 (gI s2 200 2 + nI i).toNatClampNeg = gI s2 216 (nI i).toNatClampNeg := q
                      rw [g1, g2, nI_eq (by omega) (by omega)] at q1
                      show P 40 [some tM, some (.inr (.inr (some (.inl 216)))), some (iv (nI (wEn tp a))), some (iv (nI i + nI 1))] [] s2
                      rw [nI_add]
                      refine ih (i+1) (by omega) (fun j hj => ?_)
                      by_cases ej : j = i
                      · rw [ej, hc, hu, q1]
                      · exact hall j (by omega)
                    · have q1 : ¬ gI s2 201 (gI s2 200 2 + nI i).toNatClampNeg = gI s2 216 (nI i).toNatClampNeg := q
                      rw [g1, g2, nI_eq (by omega) (by omega)] at q1
                      rw [show kwS tp wClock (.ok a) = false from ?_]
                      · rfl
                      · show kw tp wClock a = false
                        rw [kwe]
                        refine decide_eq_false (fun e9 => q1 ?_)
                        have := sub_get (tp := tp) (a := a) (b := wEn tp a) (i := i) (by omega)
                        rw [e9, hc, hu] at this
                        cases this
                        rfl
                exact at40 5 0 (by omega) (fun j hj => absurd hj (Nat.not_lt_zero _))
              · have q0 : ¬ nI (wEn tp a) - gI s2 200 2 = nI 5 := q
                rw [ed, nI_eq (by omega) (by omega)] at q0
                rw [show kwS tp wClock (.ok a) = false from ?_]
                · rfl
                · show kw tp wClock a = false
                  rw [kwe]
                  refine decide_eq_false (fun e9 => q0 ?_)
                  rw [← hsl, e9]
                  rfl
            refine hP _ _ _ _ (And.intro (fun _ => at29) (fun q => ?_))
            have q0 : ¬ gI s2 200 3 ≤ nI (wEn tp a) := q
            rw [h3, nI_leI (by omega) (by omega)] at q0
            obtain ⟨c, hc⟩ : ∃ c, tp[wEn tp a]? = some c := ⟨_, List.getElem?_eq_getElem (by omega)⟩
            have hv := p1.1.2 _ c hc
            refine And.intro (show vp_in (nI (wEn tp a)) 1600 from vinN (by omega) (by decide)) ?_
            refine mcall (c_isLetter G g l d s2 _) (fun r s3 h8 => ?_)
            obtain ⟨rfl, rfl⟩ := h8
            rw [show gI s3 201 (nI (wEn tp a)).toNatClampNeg = byI tp (wEn tp a) by rw [clN (by omega), hv.1]; unfold byI; rw [hc]]
            rw [letB p1.1, show isAt isL tp (wEn tp a) = false from endE_end isL tp a]
            exact And.intro (fun _ => at29) (fun q => absurd rfl q)
          induction m with
          | zero => intro k hk hak; exact fin k (by omega)
          | succ m ih =>
            intro k hk hak
            have hkL : isAt isL tp k = true := endE_in (p := isL) (a := a) hak (by show k < wEn tp a; omega)
            have hkl := isAt_lt hkL
            obtain ⟨c, hc⟩ : ∃ c, tp[k]? = some c := ⟨_, List.getElem?_eq_getElem hkl⟩
            have hv := p1.1.2 _ c hc
            refine hP _ _ _ _ (And.intro (fun q => ?_) (fun _ => And.intro (show vp_in (nI k) 1600 from vinN (by omega) (by decide)) ?_))
            · have q0 : gI s2 200 3 ≤ nI k := q
              rw [h3, nI_leI (by omega) (by omega)] at q0
              omega
            refine mcall (c_isLetter G g l d s2 _) (fun r s3 h8 => ?_)
            obtain ⟨rfl, rfl⟩ := h8
            rw [show gI s3 201 (nI k).toNatClampNeg = byI tp k by rw [clN (by omega), hv.1]; unfold byI; rw [hc]]
            rw [letB p1.1, hkL]
            refine And.intro (fun q => absurd q (by decide)) (fun _ => ?_)
            show P 17 [some tM, some (.inr (.inr (some (.inl 216)))), some (iv (nI k + nI 1)), none] [] s3
            rw [nI_add]
            exact ih (k+1) (by omega) (by omega)
        show P 17 [some tM, some (.inr (.inr (some (.inl 216)))), some (iv (gI s2 200 2)), none] [] s2
        rw [p3]
        exact at17 (wEn tp a - a) a (by have := endE_ge isL tp a; show a + (endE isL tp a - a) = endE isL tp a; omega) (Nat.le_refl _)
      · have hpr : prLD tp a = true := pr_eq p3 p7 p9 (by omega) (by omega) q
        exact no s2 (by show kw tp wClock a = false; unfold kw; rw [hL, hpr]; rfl) S1 O1
theorem c_takes_216 (tp : List Nat) (S : Pos) (h : PX tp S σ) (hw : Wd 216 wClock σ) : MC G g l (d+3) mX6_takes [tM, .inr (.inr (some (.inl 216)))] σ (fun r t => r = some (iv (bI (kwS tp wClock S))) ∧ mS [2, 4] [] σ t ∧ PX tp (takS tp wClock S) t ∧ (kwS tp wClock S = false → PE tp S t)) := by
  refine MC0 tX6_takes rfl okX6_takes rfl rfl rfl rfl (fun P => ?_)
  refine mcall (c_isHere_216 G g l d σ tp S h hw) (fun r s1 h8 => ?_)
  obtain ⟨rfl, S1, E1⟩ := h8
  cases hk : kwS tp wClock S with
  | false => exact And.intro (fun q => absurd rfl q) (fun _ => ⟨nar0, rfl, S1.mono rfl rfl, takS_no hk E1, fun _ => E1⟩)
  | true =>
    refine And.intro (fun _ => ⟨nar1, rfl, ((S1.mono rfl rfl).f rfl).f rfl, ?_, fun q => by cases q⟩) (fun q => absurd q (by decide))
    exact takS_yes (n := 5) hk E1 rfl
theorem c_asks_216 (tp : List Nat) (S : Pos) (h : PX tp S σ) (hw : Wd 216 wClock σ) : MC G g l (d+4) mX6_asks [tM, .inr (.inr (some (.inl 216)))] σ (fun r t => r = none ∧ mS [2, 4, 5, 6] [] σ t ∧ PX tp (match S with
      | .ok a => askW tp wClock a
      | .error f => .error f) t) := by
  refine MC0 tX6_asks rfl okX6_asks rfl rfl rfl rfl (fun P => ?_)
  cases S with
  | error f => exact And.intro (fun _ => ⟨rfl, mS.rf, h⟩) (fun q => absurd q (pf_bad h))
  | ok a =>
    have p2 := h.elim (fun a' h => h.2.1)
    refine And.intro (fun q => absurd p2 q) (fun _ => ?_)
    refine mcall (c_takes_216 G g l d σ tp (.ok a) h hw) (fun r s1 h8 => ?_)
    obtain ⟨rfl, S1, X1, E1⟩ := h8
    cases hk : kwS tp wClock (.ok a) with
    | true =>
      refine And.intro (fun _ => ⟨rfl, S1.mono rfl rfl, ?_⟩) (fun q => absurd q (by decide))
      have hk0 : kw tp wClock a = true := hk
      show PX tp (askW tp wClock a) s1
      unfold askW
      rw [if_pos hk0]
      have : takS tp wClock (.ok a) = .ok (skp tp (a + wClock.length)) := if_pos hk0
      rw [this] at X1
      exact X1
    | false =>
      have hk0 : kw tp wClock a = false := hk
      have E2 : PO tp a a s1 := E1 hk
      refine And.intro (fun q => absurd rfl q) (fun _ => ?_)
      have hl := E2.1.len
      have ha := E2.2.2.2.2.1
      refine mcall (c_fail G g l (d+2) s1 tp (.ok a) ⟨a, E2⟩ _ _ 1 a rfl E2.2.2.1 (by omega) (by omega) (by omega)) (fun r s2 h8 => ?_)
      obtain ⟨rfl, S2, X2⟩ := h8
      refine ⟨rfl, (S1.mono rfl rfl).tr (S2.mono rfl rfl), ?_⟩
      show PX tp (askW tp wClock a) s2
      unfold askW
      rw [if_neg (by rw [hk0]; decide)]
      exact X2
set_option maxHeartbeats 1000000 in
theorem c_isHere_217 (tp : List Nat) (S : Pos) (h : PX tp S σ) (hw : Wd 217 wDay σ) : MC G g l (d+2) mX6_isHere [tM, .inr (.inr (some (.inl 217)))] σ (fun r t => r = some (iv (bI (kwS tp wDay S))) ∧ mS [2] [] σ t ∧ PE tp S t) := by
  refine MC1 tX6_isHere [12, 17, 29, 40] rfl okX6_isHere rfl rfl rfl rfl (fun P hP => ?_)
  have no : ∀ τ, kwS tp wDay S = false → mS [2] [] σ τ → PE tp S τ → P 12 [some tM, some (.inr (.inr (some (.inl 217)))), none, none] [] τ := fun τ e hS hE => hP _ _ _ _ ⟨nar0, by rw [e]; rfl, hS, hE⟩
  refine hP _ _ _ _ ?_
  cases S with
  | error f =>
    refine And.intro (fun _ => no σ rfl mS.rf h) (fun q => absurd q (pf_bad h))
  | ok a =>
    obtain ⟨a', h9⟩ := h
    refine And.intro (fun q => absurd h9.2.1 q) (fun _ => ?_)
    refine mcall (c_look G g l d σ tp a a' h9) (fun r s1 h8 => ?_)
    obtain ⟨rfl, S1, O1⟩ := h8
    have hw1 : Wd 217 wDay s1 := hw.keep S1 rfl rfl
    obtain ⟨p1, p2, p3, p4, p5, p6, e, p7, p8, p9, p10⟩ := O1
    have O1 : PO tp a a s1 := ⟨p1, p2, p3, p4, p5, p6, e, p7, p8, p9, p10⟩
    have hl := p1.len
    refine mcall (c_isLetter G g l d s1 (byI tp a)) (fun r s2 h8 => ?_)
    obtain ⟨rfl, rfl⟩ := h8
    rw [letB p1.1 a]
    cases hL : isAt isL tp a with
    | false => exact And.intro (fun _ => no s2 (by show kw tp wDay a = false; unfold kw; rw [hL]; rfl) S1 O1) (fun q => absurd rfl q)
    | true =>
      refine And.intro (fun q => absurd q (by decide)) (fun _ => And.intro (fun q => ?_) (fun q => ?_))
      · have hpr : prLD tp a = false := pr_ne p3 p7 p9 (by omega) (by omega) q
        have at17 : ∀ (m k : Nat), k + m = wEn tp a → a ≤ k → P 17 [some tM, some (.inr (.inr (some (.inl 217)))), some (iv (nI k)), none] [] s2 := by
          intro m
          have hwl : wEn tp a ≤ tp.length := endE_le isL p5
          have h3 : gI s2 200 3 = nI tp.length := p1.2
          have fin : ∀ k, k = wEn tp a → P 17 [some tM, some (.inr (.inr (some (.inl 217)))), some (iv (nI k)), none] [] s2 := by
            intro k hk
            subst hk
            have aw : a ≤ wEn tp a := endE_ge isL tp a
            have ed : nI (wEn tp a) - gI s2 200 2 = nI (wEn tp a - a) := by rw [p3]; exact nI_s1 _ _ aw
            have hsl := sub_len (tp := tp) (a := a) hwl
            have kwe : kw tp wDay a = decide (sub_ tp a (wEn tp a) = wDay) := by unfold kw; rw [hL, hpr]; rfl
            have at29 : P 29 [some tM, some (.inr (.inr (some (.inl 217)))), some (iv (nI (wEn tp a))), none] [] s2 := by
              refine hP _ _ _ _ (And.intro (fun q => ?_) (fun q => ⟨nar0, ?_, S1, O1⟩))
              · have q0 : nI (wEn tp a) - gI s2 200 2 = nI 3 := q
                rw [ed, nI_eq (by omega) (by omega)] at q0
                have at40 : ∀ (m i : Nat), i + m = 3 → (∀ j, j < i → tp[a + j]? = wDay[j]?) → P 40 [some tM, some (.inr (.inr (some (.inl 217)))), some (iv (nI (wEn tp a))), some (iv (nI i))] [] s2 := by
                  intro m
                  induction m with
                  | zero =>
                    intro i hi hall
                    refine hP _ _ _ _ (And.intro (fun _ => ⟨nar1, ?_, S1, O1⟩) (fun q => absurd (show nI 3 ≤ nI i from nI_le (by omega) (by omega)) q))
                    rw [show kwS tp wDay (.ok a) = true from ?_]
                    · rfl
                    · show kw tp wDay a = true
                      rw [kwe]
                      refine decide_eq_true (List.ext_getElem? (fun j => ?_))
                      by_cases hj : j < 3
                      · rw [sub_get (by omega)]; exact hall j (by omega)
                      · rw [List.getElem?_eq_none (by omega), List.getElem?_eq_none (show wDay.length ≤ j by show 3 ≤ j; omega)]
                  | succ m ih =>
                    intro i hi hall
                    have hil : a + i < tp.length := by omega
                    obtain ⟨c, hc⟩ : ∃ c, tp[a + i]? = some c := ⟨_, List.getElem?_eq_getElem hil⟩
                    obtain ⟨u, hu⟩ : ∃ u, wDay[i]? = some u := ⟨_, List.getElem?_eq_getElem (show i < wDay.length by show i < 3; omega)⟩
                    have hv := p1.1.2 _ c hc
                    have hu2 := hw1.1 i u hu
                    have ei : gI s2 200 2 + nI i = nI (a + i) := by rw [p3, nI_add]
                    have g1 : gI s2 201 (gI s2 200 2 + nI i).toNatClampNeg = nI c := by rw [ei, clN (by omega), hv.1]
                    have g2 : gI s2 217 (nI i).toNatClampNeg = nI u := by rw [clN (by omega), hu2]
                    have hub := hw1.2 u (List.mem_of_getElem? hu)
                    refine hP _ _ _ _ (And.intro (fun q => absurd q (show ¬ nI 3 ≤ nI i from nI_ge (by omega) (by omega))) (fun _ => And.intro (show vp_in (gI s2 200 2 + nI i) 1600 from by rw [ei]; exact vinN (by omega) (by decide)) (And.intro (show vp_in (nI i) 3 from vinN (by omega) (by decide)) (And.intro (fun q => ?_) (fun q => ⟨nar0, ?_, S1, O1⟩)))))
                    · have q1 : gI s2 201 (gI s2 200 2 + nI i).toNatClampNeg = gI s2 217 (nI i).toNatClampNeg := q
                      rw [g1, g2, nI_eq (by omega) (by omega)] at q1
                      show P 40 [some tM, some (.inr (.inr (some (.inl 217)))), some (iv (nI (wEn tp a))), some (iv (nI i + nI 1))] [] s2
                      rw [nI_add]
                      refine ih (i+1) (by omega) (fun j hj => ?_)
                      by_cases ej : j = i
                      · rw [ej, hc, hu, q1]
                      · exact hall j (by omega)
                    · have q1 : ¬ gI s2 201 (gI s2 200 2 + nI i).toNatClampNeg = gI s2 217 (nI i).toNatClampNeg := q
                      rw [g1, g2, nI_eq (by omega) (by omega)] at q1
                      rw [show kwS tp wDay (.ok a) = false from ?_]
                      · rfl
                      · show kw tp wDay a = false
                        rw [kwe]
                        refine decide_eq_false (fun e9 => q1 ?_)
                        have := sub_get (tp := tp) (a := a) (b := wEn tp a) (i := i) (by omega)
                        rw [e9, hc, hu] at this
                        cases this
                        rfl
                exact at40 3 0 (by omega) (fun j hj => absurd hj (Nat.not_lt_zero _))
              · have q0 : ¬ nI (wEn tp a) - gI s2 200 2 = nI 3 := q
                rw [ed, nI_eq (by omega) (by omega)] at q0
                rw [show kwS tp wDay (.ok a) = false from ?_]
                · rfl
                · show kw tp wDay a = false
                  rw [kwe]
                  refine decide_eq_false (fun e9 => q0 ?_)
                  rw [← hsl, e9]
                  rfl
            refine hP _ _ _ _ (And.intro (fun _ => at29) (fun q => ?_))
            have q0 : ¬ gI s2 200 3 ≤ nI (wEn tp a) := q
            rw [h3, nI_leI (by omega) (by omega)] at q0
            obtain ⟨c, hc⟩ : ∃ c, tp[wEn tp a]? = some c := ⟨_, List.getElem?_eq_getElem (by omega)⟩
            have hv := p1.1.2 _ c hc
            refine And.intro (show vp_in (nI (wEn tp a)) 1600 from vinN (by omega) (by decide)) ?_
            refine mcall (c_isLetter G g l d s2 _) (fun r s3 h8 => ?_)
            obtain ⟨rfl, rfl⟩ := h8
            rw [show gI s3 201 (nI (wEn tp a)).toNatClampNeg = byI tp (wEn tp a) by rw [clN (by omega), hv.1]; unfold byI; rw [hc]]
            rw [letB p1.1, show isAt isL tp (wEn tp a) = false from endE_end isL tp a]
            exact And.intro (fun _ => at29) (fun q => absurd rfl q)
          induction m with
          | zero => intro k hk hak; exact fin k (by omega)
          | succ m ih =>
            intro k hk hak
            have hkL : isAt isL tp k = true := endE_in (p := isL) (a := a) hak (by show k < wEn tp a; omega)
            have hkl := isAt_lt hkL
            obtain ⟨c, hc⟩ : ∃ c, tp[k]? = some c := ⟨_, List.getElem?_eq_getElem hkl⟩
            have hv := p1.1.2 _ c hc
            refine hP _ _ _ _ (And.intro (fun q => ?_) (fun _ => And.intro (show vp_in (nI k) 1600 from vinN (by omega) (by decide)) ?_))
            · have q0 : gI s2 200 3 ≤ nI k := q
              rw [h3, nI_leI (by omega) (by omega)] at q0
              omega
            refine mcall (c_isLetter G g l d s2 _) (fun r s3 h8 => ?_)
            obtain ⟨rfl, rfl⟩ := h8
            rw [show gI s3 201 (nI k).toNatClampNeg = byI tp k by rw [clN (by omega), hv.1]; unfold byI; rw [hc]]
            rw [letB p1.1, hkL]
            refine And.intro (fun q => absurd q (by decide)) (fun _ => ?_)
            show P 17 [some tM, some (.inr (.inr (some (.inl 217)))), some (iv (nI k + nI 1)), none] [] s3
            rw [nI_add]
            exact ih (k+1) (by omega) (by omega)
        show P 17 [some tM, some (.inr (.inr (some (.inl 217)))), some (iv (gI s2 200 2)), none] [] s2
        rw [p3]
        exact at17 (wEn tp a - a) a (by have := endE_ge isL tp a; show a + (endE isL tp a - a) = endE isL tp a; omega) (Nat.le_refl _)
      · have hpr : prLD tp a = true := pr_eq p3 p7 p9 (by omega) (by omega) q
        exact no s2 (by show kw tp wDay a = false; unfold kw; rw [hL, hpr]; rfl) S1 O1
theorem c_takes_217 (tp : List Nat) (S : Pos) (h : PX tp S σ) (hw : Wd 217 wDay σ) : MC G g l (d+3) mX6_takes [tM, .inr (.inr (some (.inl 217)))] σ (fun r t => r = some (iv (bI (kwS tp wDay S))) ∧ mS [2, 4] [] σ t ∧ PX tp (takS tp wDay S) t ∧ (kwS tp wDay S = false → PE tp S t)) := by
  refine MC0 tX6_takes rfl okX6_takes rfl rfl rfl rfl (fun P => ?_)
  refine mcall (c_isHere_217 G g l d σ tp S h hw) (fun r s1 h8 => ?_)
  obtain ⟨rfl, S1, E1⟩ := h8
  cases hk : kwS tp wDay S with
  | false => exact And.intro (fun q => absurd rfl q) (fun _ => ⟨nar0, rfl, S1.mono rfl rfl, takS_no hk E1, fun _ => E1⟩)
  | true =>
    refine And.intro (fun _ => ⟨nar1, rfl, ((S1.mono rfl rfl).f rfl).f rfl, ?_, fun q => by cases q⟩) (fun q => absurd q (by decide))
    exact takS_yes (n := 3) hk E1 rfl
theorem c_asks_217 (tp : List Nat) (S : Pos) (h : PX tp S σ) (hw : Wd 217 wDay σ) : MC G g l (d+4) mX6_asks [tM, .inr (.inr (some (.inl 217)))] σ (fun r t => r = none ∧ mS [2, 4, 5, 6] [] σ t ∧ PX tp (match S with
      | .ok a => askW tp wDay a
      | .error f => .error f) t) := by
  refine MC0 tX6_asks rfl okX6_asks rfl rfl rfl rfl (fun P => ?_)
  cases S with
  | error f => exact And.intro (fun _ => ⟨rfl, mS.rf, h⟩) (fun q => absurd q (pf_bad h))
  | ok a =>
    have p2 := h.elim (fun a' h => h.2.1)
    refine And.intro (fun q => absurd p2 q) (fun _ => ?_)
    refine mcall (c_takes_217 G g l d σ tp (.ok a) h hw) (fun r s1 h8 => ?_)
    obtain ⟨rfl, S1, X1, E1⟩ := h8
    cases hk : kwS tp wDay (.ok a) with
    | true =>
      refine And.intro (fun _ => ⟨rfl, S1.mono rfl rfl, ?_⟩) (fun q => absurd q (by decide))
      have hk0 : kw tp wDay a = true := hk
      show PX tp (askW tp wDay a) s1
      unfold askW
      rw [if_pos hk0]
      have : takS tp wDay (.ok a) = .ok (skp tp (a + wDay.length)) := if_pos hk0
      rw [this] at X1
      exact X1
    | false =>
      have hk0 : kw tp wDay a = false := hk
      have E2 : PO tp a a s1 := E1 hk
      refine And.intro (fun q => absurd rfl q) (fun _ => ?_)
      have hl := E2.1.len
      have ha := E2.2.2.2.2.1
      refine mcall (c_fail G g l (d+2) s1 tp (.ok a) ⟨a, E2⟩ _ _ 1 a rfl E2.2.2.1 (by omega) (by omega) (by omega)) (fun r s2 h8 => ?_)
      obtain ⟨rfl, S2, X2⟩ := h8
      refine ⟨rfl, (S1.mono rfl rfl).tr (S2.mono rfl rfl), ?_⟩
      show PX tp (askW tp wDay a) s2
      unfold askW
      rw [if_neg (by rw [hk0]; decide)]
      exact X2
set_option maxHeartbeats 1000000 in
theorem c_isHere_218 (tp : List Nat) (S : Pos) (h : PX tp S σ) (hw : Wd 218 wMin σ) : MC G g l (d+2) mX6_isHere [tM, .inr (.inr (some (.inl 218)))] σ (fun r t => r = some (iv (bI (kwS tp wMin S))) ∧ mS [2] [] σ t ∧ PE tp S t) := by
  refine MC1 tX6_isHere [12, 17, 29, 40] rfl okX6_isHere rfl rfl rfl rfl (fun P hP => ?_)
  have no : ∀ τ, kwS tp wMin S = false → mS [2] [] σ τ → PE tp S τ → P 12 [some tM, some (.inr (.inr (some (.inl 218)))), none, none] [] τ := fun τ e hS hE => hP _ _ _ _ ⟨nar0, by rw [e]; rfl, hS, hE⟩
  refine hP _ _ _ _ ?_
  cases S with
  | error f =>
    refine And.intro (fun _ => no σ rfl mS.rf h) (fun q => absurd q (pf_bad h))
  | ok a =>
    obtain ⟨a', h9⟩ := h
    refine And.intro (fun q => absurd h9.2.1 q) (fun _ => ?_)
    refine mcall (c_look G g l d σ tp a a' h9) (fun r s1 h8 => ?_)
    obtain ⟨rfl, S1, O1⟩ := h8
    have hw1 : Wd 218 wMin s1 := hw.keep S1 rfl rfl
    obtain ⟨p1, p2, p3, p4, p5, p6, e, p7, p8, p9, p10⟩ := O1
    have O1 : PO tp a a s1 := ⟨p1, p2, p3, p4, p5, p6, e, p7, p8, p9, p10⟩
    have hl := p1.len
    refine mcall (c_isLetter G g l d s1 (byI tp a)) (fun r s2 h8 => ?_)
    obtain ⟨rfl, rfl⟩ := h8
    rw [letB p1.1 a]
    cases hL : isAt isL tp a with
    | false => exact And.intro (fun _ => no s2 (by show kw tp wMin a = false; unfold kw; rw [hL]; rfl) S1 O1) (fun q => absurd rfl q)
    | true =>
      refine And.intro (fun q => absurd q (by decide)) (fun _ => And.intro (fun q => ?_) (fun q => ?_))
      · have hpr : prLD tp a = false := pr_ne p3 p7 p9 (by omega) (by omega) q
        have at17 : ∀ (m k : Nat), k + m = wEn tp a → a ≤ k → P 17 [some tM, some (.inr (.inr (some (.inl 218)))), some (iv (nI k)), none] [] s2 := by
          intro m
          have hwl : wEn tp a ≤ tp.length := endE_le isL p5
          have h3 : gI s2 200 3 = nI tp.length := p1.2
          have fin : ∀ k, k = wEn tp a → P 17 [some tM, some (.inr (.inr (some (.inl 218)))), some (iv (nI k)), none] [] s2 := by
            intro k hk
            subst hk
            have aw : a ≤ wEn tp a := endE_ge isL tp a
            have ed : nI (wEn tp a) - gI s2 200 2 = nI (wEn tp a - a) := by rw [p3]; exact nI_s1 _ _ aw
            have hsl := sub_len (tp := tp) (a := a) hwl
            have kwe : kw tp wMin a = decide (sub_ tp a (wEn tp a) = wMin) := by unfold kw; rw [hL, hpr]; rfl
            have at29 : P 29 [some tM, some (.inr (.inr (some (.inl 218)))), some (iv (nI (wEn tp a))), none] [] s2 := by
              refine hP _ _ _ _ (And.intro (fun q => ?_) (fun q => ⟨nar0, ?_, S1, O1⟩))
              · have q0 : nI (wEn tp a) - gI s2 200 2 = nI 3 := q
                rw [ed, nI_eq (by omega) (by omega)] at q0
                have at40 : ∀ (m i : Nat), i + m = 3 → (∀ j, j < i → tp[a + j]? = wMin[j]?) → P 40 [some tM, some (.inr (.inr (some (.inl 218)))), some (iv (nI (wEn tp a))), some (iv (nI i))] [] s2 := by
                  intro m
                  induction m with
                  | zero =>
                    intro i hi hall
                    refine hP _ _ _ _ (And.intro (fun _ => ⟨nar1, ?_, S1, O1⟩) (fun q => absurd (show nI 3 ≤ nI i from nI_le (by omega) (by omega)) q))
                    rw [show kwS tp wMin (.ok a) = true from ?_]
                    · rfl
                    · show kw tp wMin a = true
                      rw [kwe]
                      refine decide_eq_true (List.ext_getElem? (fun j => ?_))
                      by_cases hj : j < 3
                      · rw [sub_get (by omega)]; exact hall j (by omega)
                      · rw [List.getElem?_eq_none (by omega), List.getElem?_eq_none (show wMin.length ≤ j by show 3 ≤ j; omega)]
                  | succ m ih =>
                    intro i hi hall
                    have hil : a + i < tp.length := by omega
                    obtain ⟨c, hc⟩ : ∃ c, tp[a + i]? = some c := ⟨_, List.getElem?_eq_getElem hil⟩
                    obtain ⟨u, hu⟩ : ∃ u, wMin[i]? = some u := ⟨_, List.getElem?_eq_getElem (show i < wMin.length by show i < 3; omega)⟩
                    have hv := p1.1.2 _ c hc
                    have hu2 := hw1.1 i u hu
                    have ei : gI s2 200 2 + nI i = nI (a + i) := by rw [p3, nI_add]
                    have g1 : gI s2 201 (gI s2 200 2 + nI i).toNatClampNeg = nI c := by rw [ei, clN (by omega), hv.1]
                    have g2 : gI s2 218 (nI i).toNatClampNeg = nI u := by rw [clN (by omega), hu2]
                    have hub := hw1.2 u (List.mem_of_getElem? hu)
                    refine hP _ _ _ _ (And.intro (fun q => absurd q (show ¬ nI 3 ≤ nI i from nI_ge (by omega) (by omega))) (fun _ => And.intro (show vp_in (gI s2 200 2 + nI i) 1600 from by rw [ei]; exact vinN (by omega) (by decide)) (And.intro (show vp_in (nI i) 3 from vinN (by omega) (by decide)) (And.intro (fun q => ?_) (fun q => ⟨nar0, ?_, S1, O1⟩)))))
                    · have q1 : gI s2 201 (gI s2 200 2 + nI i).toNatClampNeg = gI s2 218 (nI i).toNatClampNeg := q
                      rw [g1, g2, nI_eq (by omega) (by omega)] at q1
                      show P 40 [some tM, some (.inr (.inr (some (.inl 218)))), some (iv (nI (wEn tp a))), some (iv (nI i + nI 1))] [] s2
                      rw [nI_add]
                      refine ih (i+1) (by omega) (fun j hj => ?_)
                      by_cases ej : j = i
                      · rw [ej, hc, hu, q1]
                      · exact hall j (by omega)
                    · have q1 : ¬ gI s2 201 (gI s2 200 2 + nI i).toNatClampNeg = gI s2 218 (nI i).toNatClampNeg := q
                      rw [g1, g2, nI_eq (by omega) (by omega)] at q1
                      rw [show kwS tp wMin (.ok a) = false from ?_]
                      · rfl
                      · show kw tp wMin a = false
                        rw [kwe]
                        refine decide_eq_false (fun e9 => q1 ?_)
                        have := sub_get (tp := tp) (a := a) (b := wEn tp a) (i := i) (by omega)
                        rw [e9, hc, hu] at this
                        cases this
                        rfl
                exact at40 3 0 (by omega) (fun j hj => absurd hj (Nat.not_lt_zero _))
              · have q0 : ¬ nI (wEn tp a) - gI s2 200 2 = nI 3 := q
                rw [ed, nI_eq (by omega) (by omega)] at q0
                rw [show kwS tp wMin (.ok a) = false from ?_]
                · rfl
                · show kw tp wMin a = false
                  rw [kwe]
                  refine decide_eq_false (fun e9 => q0 ?_)
                  rw [← hsl, e9]
                  rfl
            refine hP _ _ _ _ (And.intro (fun _ => at29) (fun q => ?_))
            have q0 : ¬ gI s2 200 3 ≤ nI (wEn tp a) := q
            rw [h3, nI_leI (by omega) (by omega)] at q0
            obtain ⟨c, hc⟩ : ∃ c, tp[wEn tp a]? = some c := ⟨_, List.getElem?_eq_getElem (by omega)⟩
            have hv := p1.1.2 _ c hc
            refine And.intro (show vp_in (nI (wEn tp a)) 1600 from vinN (by omega) (by decide)) ?_
            refine mcall (c_isLetter G g l d s2 _) (fun r s3 h8 => ?_)
            obtain ⟨rfl, rfl⟩ := h8
            rw [show gI s3 201 (nI (wEn tp a)).toNatClampNeg = byI tp (wEn tp a) by rw [clN (by omega), hv.1]; unfold byI; rw [hc]]
            rw [letB p1.1, show isAt isL tp (wEn tp a) = false from endE_end isL tp a]
            exact And.intro (fun _ => at29) (fun q => absurd rfl q)
          induction m with
          | zero => intro k hk hak; exact fin k (by omega)
          | succ m ih =>
            intro k hk hak
            have hkL : isAt isL tp k = true := endE_in (p := isL) (a := a) hak (by show k < wEn tp a; omega)
            have hkl := isAt_lt hkL
            obtain ⟨c, hc⟩ : ∃ c, tp[k]? = some c := ⟨_, List.getElem?_eq_getElem hkl⟩
            have hv := p1.1.2 _ c hc
            refine hP _ _ _ _ (And.intro (fun q => ?_) (fun _ => And.intro (show vp_in (nI k) 1600 from vinN (by omega) (by decide)) ?_))
            · have q0 : gI s2 200 3 ≤ nI k := q
              rw [h3, nI_leI (by omega) (by omega)] at q0
              omega
            refine mcall (c_isLetter G g l d s2 _) (fun r s3 h8 => ?_)
            obtain ⟨rfl, rfl⟩ := h8
            rw [show gI s3 201 (nI k).toNatClampNeg = byI tp k by rw [clN (by omega), hv.1]; unfold byI; rw [hc]]
            rw [letB p1.1, hkL]
            refine And.intro (fun q => absurd q (by decide)) (fun _ => ?_)
            show P 17 [some tM, some (.inr (.inr (some (.inl 218)))), some (iv (nI k + nI 1)), none] [] s3
            rw [nI_add]
            exact ih (k+1) (by omega) (by omega)
        show P 17 [some tM, some (.inr (.inr (some (.inl 218)))), some (iv (gI s2 200 2)), none] [] s2
        rw [p3]
        exact at17 (wEn tp a - a) a (by have := endE_ge isL tp a; show a + (endE isL tp a - a) = endE isL tp a; omega) (Nat.le_refl _)
      · have hpr : prLD tp a = true := pr_eq p3 p7 p9 (by omega) (by omega) q
        exact no s2 (by show kw tp wMin a = false; unfold kw; rw [hL, hpr]; rfl) S1 O1
theorem c_takes_218 (tp : List Nat) (S : Pos) (h : PX tp S σ) (hw : Wd 218 wMin σ) : MC G g l (d+3) mX6_takes [tM, .inr (.inr (some (.inl 218)))] σ (fun r t => r = some (iv (bI (kwS tp wMin S))) ∧ mS [2, 4] [] σ t ∧ PX tp (takS tp wMin S) t ∧ (kwS tp wMin S = false → PE tp S t)) := by
  refine MC0 tX6_takes rfl okX6_takes rfl rfl rfl rfl (fun P => ?_)
  refine mcall (c_isHere_218 G g l d σ tp S h hw) (fun r s1 h8 => ?_)
  obtain ⟨rfl, S1, E1⟩ := h8
  cases hk : kwS tp wMin S with
  | false => exact And.intro (fun q => absurd rfl q) (fun _ => ⟨nar0, rfl, S1.mono rfl rfl, takS_no hk E1, fun _ => E1⟩)
  | true =>
    refine And.intro (fun _ => ⟨nar1, rfl, ((S1.mono rfl rfl).f rfl).f rfl, ?_, fun q => by cases q⟩) (fun q => absurd q (by decide))
    exact takS_yes (n := 3) hk E1 rfl
theorem c_asks_218 (tp : List Nat) (S : Pos) (h : PX tp S σ) (hw : Wd 218 wMin σ) : MC G g l (d+4) mX6_asks [tM, .inr (.inr (some (.inl 218)))] σ (fun r t => r = none ∧ mS [2, 4, 5, 6] [] σ t ∧ PX tp (match S with
      | .ok a => askW tp wMin a
      | .error f => .error f) t) := by
  refine MC0 tX6_asks rfl okX6_asks rfl rfl rfl rfl (fun P => ?_)
  cases S with
  | error f => exact And.intro (fun _ => ⟨rfl, mS.rf, h⟩) (fun q => absurd q (pf_bad h))
  | ok a =>
    have p2 := h.elim (fun a' h => h.2.1)
    refine And.intro (fun q => absurd p2 q) (fun _ => ?_)
    refine mcall (c_takes_218 G g l d σ tp (.ok a) h hw) (fun r s1 h8 => ?_)
    obtain ⟨rfl, S1, X1, E1⟩ := h8
    cases hk : kwS tp wMin (.ok a) with
    | true =>
      refine And.intro (fun _ => ⟨rfl, S1.mono rfl rfl, ?_⟩) (fun q => absurd q (by decide))
      have hk0 : kw tp wMin a = true := hk
      show PX tp (askW tp wMin a) s1
      unfold askW
      rw [if_pos hk0]
      have : takS tp wMin (.ok a) = .ok (skp tp (a + wMin.length)) := if_pos hk0
      rw [this] at X1
      exact X1
    | false =>
      have hk0 : kw tp wMin a = false := hk
      have E2 : PO tp a a s1 := E1 hk
      refine And.intro (fun q => absurd rfl q) (fun _ => ?_)
      have hl := E2.1.len
      have ha := E2.2.2.2.2.1
      refine mcall (c_fail G g l (d+2) s1 tp (.ok a) ⟨a, E2⟩ _ _ 1 a rfl E2.2.2.1 (by omega) (by omega) (by omega)) (fun r s2 h8 => ?_)
      obtain ⟨rfl, S2, X2⟩ := h8
      refine ⟨rfl, (S1.mono rfl rfl).tr (S2.mono rfl rfl), ?_⟩
      show PX tp (askW tp wMin a) s2
      unfold askW
      rw [if_neg (by rw [hk0]; decide)]
      exact X2
set_option maxHeartbeats 1000000 in
theorem c_isHere_219 (tp : List Nat) (S : Pos) (h : PX tp S σ) (hw : Wd 219 wMax σ) : MC G g l (d+2) mX6_isHere [tM, .inr (.inr (some (.inl 219)))] σ (fun r t => r = some (iv (bI (kwS tp wMax S))) ∧ mS [2] [] σ t ∧ PE tp S t) := by
  refine MC1 tX6_isHere [12, 17, 29, 40] rfl okX6_isHere rfl rfl rfl rfl (fun P hP => ?_)
  have no : ∀ τ, kwS tp wMax S = false → mS [2] [] σ τ → PE tp S τ → P 12 [some tM, some (.inr (.inr (some (.inl 219)))), none, none] [] τ := fun τ e hS hE => hP _ _ _ _ ⟨nar0, by rw [e]; rfl, hS, hE⟩
  refine hP _ _ _ _ ?_
  cases S with
  | error f =>
    refine And.intro (fun _ => no σ rfl mS.rf h) (fun q => absurd q (pf_bad h))
  | ok a =>
    obtain ⟨a', h9⟩ := h
    refine And.intro (fun q => absurd h9.2.1 q) (fun _ => ?_)
    refine mcall (c_look G g l d σ tp a a' h9) (fun r s1 h8 => ?_)
    obtain ⟨rfl, S1, O1⟩ := h8
    have hw1 : Wd 219 wMax s1 := hw.keep S1 rfl rfl
    obtain ⟨p1, p2, p3, p4, p5, p6, e, p7, p8, p9, p10⟩ := O1
    have O1 : PO tp a a s1 := ⟨p1, p2, p3, p4, p5, p6, e, p7, p8, p9, p10⟩
    have hl := p1.len
    refine mcall (c_isLetter G g l d s1 (byI tp a)) (fun r s2 h8 => ?_)
    obtain ⟨rfl, rfl⟩ := h8
    rw [letB p1.1 a]
    cases hL : isAt isL tp a with
    | false => exact And.intro (fun _ => no s2 (by show kw tp wMax a = false; unfold kw; rw [hL]; rfl) S1 O1) (fun q => absurd rfl q)
    | true =>
      refine And.intro (fun q => absurd q (by decide)) (fun _ => And.intro (fun q => ?_) (fun q => ?_))
      · have hpr : prLD tp a = false := pr_ne p3 p7 p9 (by omega) (by omega) q
        have at17 : ∀ (m k : Nat), k + m = wEn tp a → a ≤ k → P 17 [some tM, some (.inr (.inr (some (.inl 219)))), some (iv (nI k)), none] [] s2 := by
          intro m
          have hwl : wEn tp a ≤ tp.length := endE_le isL p5
          have h3 : gI s2 200 3 = nI tp.length := p1.2
          have fin : ∀ k, k = wEn tp a → P 17 [some tM, some (.inr (.inr (some (.inl 219)))), some (iv (nI k)), none] [] s2 := by
            intro k hk
            subst hk
            have aw : a ≤ wEn tp a := endE_ge isL tp a
            have ed : nI (wEn tp a) - gI s2 200 2 = nI (wEn tp a - a) := by rw [p3]; exact nI_s1 _ _ aw
            have hsl := sub_len (tp := tp) (a := a) hwl
            have kwe : kw tp wMax a = decide (sub_ tp a (wEn tp a) = wMax) := by unfold kw; rw [hL, hpr]; rfl
            have at29 : P 29 [some tM, some (.inr (.inr (some (.inl 219)))), some (iv (nI (wEn tp a))), none] [] s2 := by
              refine hP _ _ _ _ (And.intro (fun q => ?_) (fun q => ⟨nar0, ?_, S1, O1⟩))
              · have q0 : nI (wEn tp a) - gI s2 200 2 = nI 3 := q
                rw [ed, nI_eq (by omega) (by omega)] at q0
                have at40 : ∀ (m i : Nat), i + m = 3 → (∀ j, j < i → tp[a + j]? = wMax[j]?) → P 40 [some tM, some (.inr (.inr (some (.inl 219)))), some (iv (nI (wEn tp a))), some (iv (nI i))] [] s2 := by
                  intro m
                  induction m with
                  | zero =>
                    intro i hi hall
                    refine hP _ _ _ _ (And.intro (fun _ => ⟨nar1, ?_, S1, O1⟩) (fun q => absurd (show nI 3 ≤ nI i from nI_le (by omega) (by omega)) q))
                    rw [show kwS tp wMax (.ok a) = true from ?_]
                    · rfl
                    · show kw tp wMax a = true
                      rw [kwe]
                      refine decide_eq_true (List.ext_getElem? (fun j => ?_))
                      by_cases hj : j < 3
                      · rw [sub_get (by omega)]; exact hall j (by omega)
                      · rw [List.getElem?_eq_none (by omega), List.getElem?_eq_none (show wMax.length ≤ j by show 3 ≤ j; omega)]
                  | succ m ih =>
                    intro i hi hall
                    have hil : a + i < tp.length := by omega
                    obtain ⟨c, hc⟩ : ∃ c, tp[a + i]? = some c := ⟨_, List.getElem?_eq_getElem hil⟩
                    obtain ⟨u, hu⟩ : ∃ u, wMax[i]? = some u := ⟨_, List.getElem?_eq_getElem (show i < wMax.length by show i < 3; omega)⟩
                    have hv := p1.1.2 _ c hc
                    have hu2 := hw1.1 i u hu
                    have ei : gI s2 200 2 + nI i = nI (a + i) := by rw [p3, nI_add]
                    have g1 : gI s2 201 (gI s2 200 2 + nI i).toNatClampNeg = nI c := by rw [ei, clN (by omega), hv.1]
                    have g2 : gI s2 219 (nI i).toNatClampNeg = nI u := by rw [clN (by omega), hu2]
                    have hub := hw1.2 u (List.mem_of_getElem? hu)
                    refine hP _ _ _ _ (And.intro (fun q => absurd q (show ¬ nI 3 ≤ nI i from nI_ge (by omega) (by omega))) (fun _ => And.intro (show vp_in (gI s2 200 2 + nI i) 1600 from by rw [ei]; exact vinN (by omega) (by decide)) (And.intro (show vp_in (nI i) 3 from vinN (by omega) (by decide)) (And.intro (fun q => ?_) (fun q => ⟨nar0, ?_, S1, O1⟩)))))
                    · have q1 : gI s2 201 (gI s2 200 2 + nI i).toNatClampNeg = gI s2 219 (nI i).toNatClampNeg := q
                      rw [g1, g2, nI_eq (by omega) (by omega)] at q1
                      show P 40 [some tM, some (.inr (.inr (some (.inl 219)))), some (iv (nI (wEn tp a))), some (iv (nI i + nI 1))] [] s2
                      rw [nI_add]
                      refine ih (i+1) (by omega) (fun j hj => ?_)
                      by_cases ej : j = i
                      · rw [ej, hc, hu, q1]
                      · exact hall j (by omega)
                    · have q1 : ¬ gI s2 201 (gI s2 200 2 + nI i).toNatClampNeg = gI s2 219 (nI i).toNatClampNeg := q
                      rw [g1, g2, nI_eq (by omega) (by omega)] at q1
                      rw [show kwS tp wMax (.ok a) = false from ?_]
                      · rfl
                      · show kw tp wMax a = false
                        rw [kwe]
                        refine decide_eq_false (fun e9 => q1 ?_)
                        have := sub_get (tp := tp) (a := a) (b := wEn tp a) (i := i) (by omega)
                        rw [e9, hc, hu] at this
                        cases this
                        rfl
                exact at40 3 0 (by omega) (fun j hj => absurd hj (Nat.not_lt_zero _))
              · have q0 : ¬ nI (wEn tp a) - gI s2 200 2 = nI 3 := q
                rw [ed, nI_eq (by omega) (by omega)] at q0
                rw [show kwS tp wMax (.ok a) = false from ?_]
                · rfl
                · show kw tp wMax a = false
                  rw [kwe]
                  refine decide_eq_false (fun e9 => q0 ?_)
                  rw [← hsl, e9]
                  rfl
            refine hP _ _ _ _ (And.intro (fun _ => at29) (fun q => ?_))
            have q0 : ¬ gI s2 200 3 ≤ nI (wEn tp a) := q
            rw [h3, nI_leI (by omega) (by omega)] at q0
            obtain ⟨c, hc⟩ : ∃ c, tp[wEn tp a]? = some c := ⟨_, List.getElem?_eq_getElem (by omega)⟩
            have hv := p1.1.2 _ c hc
            refine And.intro (show vp_in (nI (wEn tp a)) 1600 from vinN (by omega) (by decide)) ?_
            refine mcall (c_isLetter G g l d s2 _) (fun r s3 h8 => ?_)
            obtain ⟨rfl, rfl⟩ := h8
            rw [show gI s3 201 (nI (wEn tp a)).toNatClampNeg = byI tp (wEn tp a) by rw [clN (by omega), hv.1]; unfold byI; rw [hc]]
            rw [letB p1.1, show isAt isL tp (wEn tp a) = false from endE_end isL tp a]
            exact And.intro (fun _ => at29) (fun q => absurd rfl q)
          induction m with
          | zero => intro k hk hak; exact fin k (by omega)
          | succ m ih =>
            intro k hk hak
            have hkL : isAt isL tp k = true := endE_in (p := isL) (a := a) hak (by show k < wEn tp a; omega)
            have hkl := isAt_lt hkL
            obtain ⟨c, hc⟩ : ∃ c, tp[k]? = some c := ⟨_, List.getElem?_eq_getElem hkl⟩
            have hv := p1.1.2 _ c hc
            refine hP _ _ _ _ (And.intro (fun q => ?_) (fun _ => And.intro (show vp_in (nI k) 1600 from vinN (by omega) (by decide)) ?_))
            · have q0 : gI s2 200 3 ≤ nI k := q
              rw [h3, nI_leI (by omega) (by omega)] at q0
              omega
            refine mcall (c_isLetter G g l d s2 _) (fun r s3 h8 => ?_)
            obtain ⟨rfl, rfl⟩ := h8
            rw [show gI s3 201 (nI k).toNatClampNeg = byI tp k by rw [clN (by omega), hv.1]; unfold byI; rw [hc]]
            rw [letB p1.1, hkL]
            refine And.intro (fun q => absurd q (by decide)) (fun _ => ?_)
            show P 17 [some tM, some (.inr (.inr (some (.inl 219)))), some (iv (nI k + nI 1)), none] [] s3
            rw [nI_add]
            exact ih (k+1) (by omega) (by omega)
        show P 17 [some tM, some (.inr (.inr (some (.inl 219)))), some (iv (gI s2 200 2)), none] [] s2
        rw [p3]
        exact at17 (wEn tp a - a) a (by have := endE_ge isL tp a; show a + (endE isL tp a - a) = endE isL tp a; omega) (Nat.le_refl _)
      · have hpr : prLD tp a = true := pr_eq p3 p7 p9 (by omega) (by omega) q
        exact no s2 (by show kw tp wMax a = false; unfold kw; rw [hL, hpr]; rfl) S1 O1
theorem c_takes_219 (tp : List Nat) (S : Pos) (h : PX tp S σ) (hw : Wd 219 wMax σ) : MC G g l (d+3) mX6_takes [tM, .inr (.inr (some (.inl 219)))] σ (fun r t => r = some (iv (bI (kwS tp wMax S))) ∧ mS [2, 4] [] σ t ∧ PX tp (takS tp wMax S) t ∧ (kwS tp wMax S = false → PE tp S t)) := by
  refine MC0 tX6_takes rfl okX6_takes rfl rfl rfl rfl (fun P => ?_)
  refine mcall (c_isHere_219 G g l d σ tp S h hw) (fun r s1 h8 => ?_)
  obtain ⟨rfl, S1, E1⟩ := h8
  cases hk : kwS tp wMax S with
  | false => exact And.intro (fun q => absurd rfl q) (fun _ => ⟨nar0, rfl, S1.mono rfl rfl, takS_no hk E1, fun _ => E1⟩)
  | true =>
    refine And.intro (fun _ => ⟨nar1, rfl, ((S1.mono rfl rfl).f rfl).f rfl, ?_, fun q => by cases q⟩) (fun q => absurd q (by decide))
    exact takS_yes (n := 3) hk E1 rfl
theorem c_asks_219 (tp : List Nat) (S : Pos) (h : PX tp S σ) (hw : Wd 219 wMax σ) : MC G g l (d+4) mX6_asks [tM, .inr (.inr (some (.inl 219)))] σ (fun r t => r = none ∧ mS [2, 4, 5, 6] [] σ t ∧ PX tp (match S with
      | .ok a => askW tp wMax a
      | .error f => .error f) t) := by
  refine MC0 tX6_asks rfl okX6_asks rfl rfl rfl rfl (fun P => ?_)
  cases S with
  | error f => exact And.intro (fun _ => ⟨rfl, mS.rf, h⟩) (fun q => absurd q (pf_bad h))
  | ok a =>
    have p2 := h.elim (fun a' h => h.2.1)
    refine And.intro (fun q => absurd p2 q) (fun _ => ?_)
    refine mcall (c_takes_219 G g l d σ tp (.ok a) h hw) (fun r s1 h8 => ?_)
    obtain ⟨rfl, S1, X1, E1⟩ := h8
    cases hk : kwS tp wMax (.ok a) with
    | true =>
      refine And.intro (fun _ => ⟨rfl, S1.mono rfl rfl, ?_⟩) (fun q => absurd q (by decide))
      have hk0 : kw tp wMax a = true := hk
      show PX tp (askW tp wMax a) s1
      unfold askW
      rw [if_pos hk0]
      have : takS tp wMax (.ok a) = .ok (skp tp (a + wMax.length)) := if_pos hk0
      rw [this] at X1
      exact X1
    | false =>
      have hk0 : kw tp wMax a = false := hk
      have E2 : PO tp a a s1 := E1 hk
      refine And.intro (fun q => absurd rfl q) (fun _ => ?_)
      have hl := E2.1.len
      have ha := E2.2.2.2.2.1
      refine mcall (c_fail G g l (d+2) s1 tp (.ok a) ⟨a, E2⟩ _ _ 1 a rfl E2.2.2.1 (by omega) (by omega) (by omega)) (fun r s2 h8 => ?_)
      obtain ⟨rfl, S2, X2⟩ := h8
      refine ⟨rfl, (S1.mono rfl rfl).tr (S2.mono rfl rfl), ?_⟩
      show PX tp (askW tp wMax a) s2
      unfold askW
      rw [if_neg (by rw [hk0]; decide)]
      exact X2
set_option maxHeartbeats 1000000 in
theorem c_isHere_246 (tp : List Nat) (S : Pos) (h : PX tp S σ) (hw : Wd 246 wFirst σ) : MC G g l (d+2) mX6_isHere [tM, .inr (.inr (some (.inl 246)))] σ (fun r t => r = some (iv (bI (kwS tp wFirst S))) ∧ mS [2] [] σ t ∧ PE tp S t) := by
  refine MC1 tX6_isHere [12, 17, 29, 40] rfl okX6_isHere rfl rfl rfl rfl (fun P hP => ?_)
  have no : ∀ τ, kwS tp wFirst S = false → mS [2] [] σ τ → PE tp S τ → P 12 [some tM, some (.inr (.inr (some (.inl 246)))), none, none] [] τ := fun τ e hS hE => hP _ _ _ _ ⟨nar0, by rw [e]; rfl, hS, hE⟩
  refine hP _ _ _ _ ?_
  cases S with
  | error f =>
    refine And.intro (fun _ => no σ rfl mS.rf h) (fun q => absurd q (pf_bad h))
  | ok a =>
    obtain ⟨a', h9⟩ := h
    refine And.intro (fun q => absurd h9.2.1 q) (fun _ => ?_)
    refine mcall (c_look G g l d σ tp a a' h9) (fun r s1 h8 => ?_)
    obtain ⟨rfl, S1, O1⟩ := h8
    have hw1 : Wd 246 wFirst s1 := hw.keep S1 rfl rfl
    obtain ⟨p1, p2, p3, p4, p5, p6, e, p7, p8, p9, p10⟩ := O1
    have O1 : PO tp a a s1 := ⟨p1, p2, p3, p4, p5, p6, e, p7, p8, p9, p10⟩
    have hl := p1.len
    refine mcall (c_isLetter G g l d s1 (byI tp a)) (fun r s2 h8 => ?_)
    obtain ⟨rfl, rfl⟩ := h8
    rw [letB p1.1 a]
    cases hL : isAt isL tp a with
    | false => exact And.intro (fun _ => no s2 (by show kw tp wFirst a = false; unfold kw; rw [hL]; rfl) S1 O1) (fun q => absurd rfl q)
    | true =>
      refine And.intro (fun q => absurd q (by decide)) (fun _ => And.intro (fun q => ?_) (fun q => ?_))
      · have hpr : prLD tp a = false := pr_ne p3 p7 p9 (by omega) (by omega) q
        have at17 : ∀ (m k : Nat), k + m = wEn tp a → a ≤ k → P 17 [some tM, some (.inr (.inr (some (.inl 246)))), some (iv (nI k)), none] [] s2 := by
          intro m
          have hwl : wEn tp a ≤ tp.length := endE_le isL p5
          have h3 : gI s2 200 3 = nI tp.length := p1.2
          have fin : ∀ k, k = wEn tp a → P 17 [some tM, some (.inr (.inr (some (.inl 246)))), some (iv (nI k)), none] [] s2 := by
            intro k hk
            subst hk
            have aw : a ≤ wEn tp a := endE_ge isL tp a
            have ed : nI (wEn tp a) - gI s2 200 2 = nI (wEn tp a - a) := by rw [p3]; exact nI_s1 _ _ aw
            have hsl := sub_len (tp := tp) (a := a) hwl
            have kwe : kw tp wFirst a = decide (sub_ tp a (wEn tp a) = wFirst) := by unfold kw; rw [hL, hpr]; rfl
            have at29 : P 29 [some tM, some (.inr (.inr (some (.inl 246)))), some (iv (nI (wEn tp a))), none] [] s2 := by
              refine hP _ _ _ _ (And.intro (fun q => ?_) (fun q => ⟨nar0, ?_, S1, O1⟩))
              · have q0 : nI (wEn tp a) - gI s2 200 2 = nI 5 := q
                rw [ed, nI_eq (by omega) (by omega)] at q0
                have at40 : ∀ (m i : Nat), i + m = 5 → (∀ j, j < i → tp[a + j]? = wFirst[j]?) → P 40 [some tM, some (.inr (.inr (some (.inl 246)))), some (iv (nI (wEn tp a))), some (iv (nI i))] [] s2 := by
                  intro m
                  induction m with
                  | zero =>
                    intro i hi hall
                    refine hP _ _ _ _ (And.intro (fun _ => ⟨nar1, ?_, S1, O1⟩) (fun q => absurd (show nI 5 ≤ nI i from nI_le (by omega) (by omega)) q))
                    rw [show kwS tp wFirst (.ok a) = true from ?_]
                    · rfl
                    · show kw tp wFirst a = true
                      rw [kwe]
                      refine decide_eq_true (List.ext_getElem? (fun j => ?_))
                      by_cases hj : j < 5
                      · rw [sub_get (by omega)]; exact hall j (by omega)
                      · rw [List.getElem?_eq_none (by omega), List.getElem?_eq_none (show wFirst.length ≤ j by show 5 ≤ j; omega)]
                  | succ m ih =>
                    intro i hi hall
                    have hil : a + i < tp.length := by omega
                    obtain ⟨c, hc⟩ : ∃ c, tp[a + i]? = some c := ⟨_, List.getElem?_eq_getElem hil⟩
                    obtain ⟨u, hu⟩ : ∃ u, wFirst[i]? = some u := ⟨_, List.getElem?_eq_getElem (show i < wFirst.length by show i < 5; omega)⟩
                    have hv := p1.1.2 _ c hc
                    have hu2 := hw1.1 i u hu
                    have ei : gI s2 200 2 + nI i = nI (a + i) := by rw [p3, nI_add]
                    have g1 : gI s2 201 (gI s2 200 2 + nI i).toNatClampNeg = nI c := by rw [ei, clN (by omega), hv.1]
                    have g2 : gI s2 246 (nI i).toNatClampNeg = nI u := by rw [clN (by omega), hu2]
                    have hub := hw1.2 u (List.mem_of_getElem? hu)
                    refine hP _ _ _ _ (And.intro (fun q => absurd q (show ¬ nI 5 ≤ nI i from nI_ge (by omega) (by omega))) (fun _ => And.intro (show vp_in (gI s2 200 2 + nI i) 1600 from by rw [ei]; exact vinN (by omega) (by decide)) (And.intro (show vp_in (nI i) 5 from vinN (by omega) (by decide)) (And.intro (fun q => ?_) (fun q => ⟨nar0, ?_, S1, O1⟩)))))
                    · have q1 : gI s2 201 (gI s2 200 2 + nI i).toNatClampNeg = gI s2 246 (nI i).toNatClampNeg := q
                      rw [g1, g2, nI_eq (by omega) (by omega)] at q1
                      show P 40 [some tM, some (.inr (.inr (some (.inl 246)))), some (iv (nI (wEn tp a))), some (iv (nI i + nI 1))] [] s2
                      rw [nI_add]
                      refine ih (i+1) (by omega) (fun j hj => ?_)
                      by_cases ej : j = i
                      · rw [ej, hc, hu, q1]
                      · exact hall j (by omega)
                    · have q1 : ¬ gI s2 201 (gI s2 200 2 + nI i).toNatClampNeg = gI s2 246 (nI i).toNatClampNeg := q
                      rw [g1, g2, nI_eq (by omega) (by omega)] at q1
                      rw [show kwS tp wFirst (.ok a) = false from ?_]
                      · rfl
                      · show kw tp wFirst a = false
                        rw [kwe]
                        refine decide_eq_false (fun e9 => q1 ?_)
                        have := sub_get (tp := tp) (a := a) (b := wEn tp a) (i := i) (by omega)
                        rw [e9, hc, hu] at this
                        cases this
                        rfl
                exact at40 5 0 (by omega) (fun j hj => absurd hj (Nat.not_lt_zero _))
              · have q0 : ¬ nI (wEn tp a) - gI s2 200 2 = nI 5 := q
                rw [ed, nI_eq (by omega) (by omega)] at q0
                rw [show kwS tp wFirst (.ok a) = false from ?_]
                · rfl
                · show kw tp wFirst a = false
                  rw [kwe]
                  refine decide_eq_false (fun e9 => q0 ?_)
                  rw [← hsl, e9]
                  rfl
            refine hP _ _ _ _ (And.intro (fun _ => at29) (fun q => ?_))
            have q0 : ¬ gI s2 200 3 ≤ nI (wEn tp a) := q
            rw [h3, nI_leI (by omega) (by omega)] at q0
            obtain ⟨c, hc⟩ : ∃ c, tp[wEn tp a]? = some c := ⟨_, List.getElem?_eq_getElem (by omega)⟩
            have hv := p1.1.2 _ c hc
            refine And.intro (show vp_in (nI (wEn tp a)) 1600 from vinN (by omega) (by decide)) ?_
            refine mcall (c_isLetter G g l d s2 _) (fun r s3 h8 => ?_)
            obtain ⟨rfl, rfl⟩ := h8
            rw [show gI s3 201 (nI (wEn tp a)).toNatClampNeg = byI tp (wEn tp a) by rw [clN (by omega), hv.1]; unfold byI; rw [hc]]
            rw [letB p1.1, show isAt isL tp (wEn tp a) = false from endE_end isL tp a]
            exact And.intro (fun _ => at29) (fun q => absurd rfl q)
          induction m with
          | zero => intro k hk hak; exact fin k (by omega)
          | succ m ih =>
            intro k hk hak
            have hkL : isAt isL tp k = true := endE_in (p := isL) (a := a) hak (by show k < wEn tp a; omega)
            have hkl := isAt_lt hkL
            obtain ⟨c, hc⟩ : ∃ c, tp[k]? = some c := ⟨_, List.getElem?_eq_getElem hkl⟩
            have hv := p1.1.2 _ c hc
            refine hP _ _ _ _ (And.intro (fun q => ?_) (fun _ => And.intro (show vp_in (nI k) 1600 from vinN (by omega) (by decide)) ?_))
            · have q0 : gI s2 200 3 ≤ nI k := q
              rw [h3, nI_leI (by omega) (by omega)] at q0
              omega
            refine mcall (c_isLetter G g l d s2 _) (fun r s3 h8 => ?_)
            obtain ⟨rfl, rfl⟩ := h8
            rw [show gI s3 201 (nI k).toNatClampNeg = byI tp k by rw [clN (by omega), hv.1]; unfold byI; rw [hc]]
            rw [letB p1.1, hkL]
            refine And.intro (fun q => absurd q (by decide)) (fun _ => ?_)
            show P 17 [some tM, some (.inr (.inr (some (.inl 246)))), some (iv (nI k + nI 1)), none] [] s3
            rw [nI_add]
            exact ih (k+1) (by omega) (by omega)
        show P 17 [some tM, some (.inr (.inr (some (.inl 246)))), some (iv (gI s2 200 2)), none] [] s2
        rw [p3]
        exact at17 (wEn tp a - a) a (by have := endE_ge isL tp a; show a + (endE isL tp a - a) = endE isL tp a; omega) (Nat.le_refl _)
      · have hpr : prLD tp a = true := pr_eq p3 p7 p9 (by omega) (by omega) q
        exact no s2 (by show kw tp wFirst a = false; unfold kw; rw [hL, hpr]; rfl) S1 O1
theorem c_takes_246 (tp : List Nat) (S : Pos) (h : PX tp S σ) (hw : Wd 246 wFirst σ) : MC G g l (d+3) mX6_takes [tM, .inr (.inr (some (.inl 246)))] σ (fun r t => r = some (iv (bI (kwS tp wFirst S))) ∧ mS [2, 4] [] σ t ∧ PX tp (takS tp wFirst S) t ∧ (kwS tp wFirst S = false → PE tp S t)) := by
  refine MC0 tX6_takes rfl okX6_takes rfl rfl rfl rfl (fun P => ?_)
  refine mcall (c_isHere_246 G g l d σ tp S h hw) (fun r s1 h8 => ?_)
  obtain ⟨rfl, S1, E1⟩ := h8
  cases hk : kwS tp wFirst S with
  | false => exact And.intro (fun q => absurd rfl q) (fun _ => ⟨nar0, rfl, S1.mono rfl rfl, takS_no hk E1, fun _ => E1⟩)
  | true =>
    refine And.intro (fun _ => ⟨nar1, rfl, ((S1.mono rfl rfl).f rfl).f rfl, ?_, fun q => by cases q⟩) (fun q => absurd q (by decide))
    exact takS_yes (n := 5) hk E1 rfl
theorem c_asks_246 (tp : List Nat) (S : Pos) (h : PX tp S σ) (hw : Wd 246 wFirst σ) : MC G g l (d+4) mX6_asks [tM, .inr (.inr (some (.inl 246)))] σ (fun r t => r = none ∧ mS [2, 4, 5, 6] [] σ t ∧ PX tp (match S with
      | .ok a => askW tp wFirst a
      | .error f => .error f) t) := by
  refine MC0 tX6_asks rfl okX6_asks rfl rfl rfl rfl (fun P => ?_)
  cases S with
  | error f => exact And.intro (fun _ => ⟨rfl, mS.rf, h⟩) (fun q => absurd q (pf_bad h))
  | ok a =>
    have p2 := h.elim (fun a' h => h.2.1)
    refine And.intro (fun q => absurd p2 q) (fun _ => ?_)
    refine mcall (c_takes_246 G g l d σ tp (.ok a) h hw) (fun r s1 h8 => ?_)
    obtain ⟨rfl, S1, X1, E1⟩ := h8
    cases hk : kwS tp wFirst (.ok a) with
    | true =>
      refine And.intro (fun _ => ⟨rfl, S1.mono rfl rfl, ?_⟩) (fun q => absurd q (by decide))
      have hk0 : kw tp wFirst a = true := hk
      show PX tp (askW tp wFirst a) s1
      unfold askW
      rw [if_pos hk0]
      have : takS tp wFirst (.ok a) = .ok (skp tp (a + wFirst.length)) := if_pos hk0
      rw [this] at X1
      exact X1
    | false =>
      have hk0 : kw tp wFirst a = false := hk
      have E2 : PO tp a a s1 := E1 hk
      refine And.intro (fun q => absurd rfl q) (fun _ => ?_)
      have hl := E2.1.len
      have ha := E2.2.2.2.2.1
      refine mcall (c_fail G g l (d+2) s1 tp (.ok a) ⟨a, E2⟩ _ _ 1 a rfl E2.2.2.1 (by omega) (by omega) (by omega)) (fun r s2 h8 => ?_)
      obtain ⟨rfl, S2, X2⟩ := h8
      refine ⟨rfl, (S1.mono rfl rfl).tr (S2.mono rfl rfl), ?_⟩
      show PX tp (askW tp wFirst a) s2
      unfold askW
      rw [if_neg (by rw [hk0]; decide)]
      exact X2
end KW_9
