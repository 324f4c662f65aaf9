section KW_27
variable (G : CX) (g : GX) (l : Launch) (d : Nat) (σ : AS)
set_option maxHeartbeats 1000000 in
theorem c_isHere_256 (tp : List Nat) (S : Pos) (h : PX tp S σ) (hw : Wd 256 wMin σ) : MC G g l (d+2) mX6_isHere [tM, .inr (.inr (some (.inl 256)))] σ (fun r t => r = some (iv (bI (kwS tp wMin S))) ∧ mS [2] [] σ t ∧ PE tp S t) := by
  refine MC1 tX6_isHere [12, 17, 29, 40] rfl okX6_isHere rfl rfl rfl rfl (fun P hP => ?_)
  have no : ∀ τ, kwS tp wMin S = false → mS [2] [] σ τ → PE tp S τ → P 12 [some tM, some (.inr (.inr (some (.inl 256)))), none, none] [] τ := fun τ e hS hE => hP _ _ _ _ ⟨nar0, by rw [e]; rfl, hS, hE⟩
  refine hP _ _ _ _ ?_
  cases S with
  | error f =>
    refine And.intro (fun _ => no σ rfl mS.rf h) (fun q => absurd q (pf_bad h))
  | ok a =>
    obtain ⟨a', h9⟩ := h
    refine And.intro (fun q => absurd h9.2.1 q) (fun _ => ?_)
    refine mcall (c_look G g l d σ tp a a' h9) (fun r s1 h8 => ?_)
    obtain ⟨rfl, S1, O1⟩ := h8
    have hw1 : Wd 256 wMin s1 := hw.keep S1 rfl rfl
    obtain ⟨p1, p2, p3, p4, p5, p6, e, p7, p8, p9, p10⟩ := O1
    have O1 : PO tp a a s1 := ⟨p1, p2, p3, p4, p5, p6, e, p7, p8, p9, p10⟩
    have hl := p1.len
    refine mcall (c_isLetter G g l d s1 (byI tp a)) (fun r s2 h8 => ?_)
    obtain ⟨rfl, rfl⟩ := h8
    rw [letB p1.1 a]
    cases hL : isAt isL tp a with
    | false => exact And.intro (fun _ => no s2 (by show kw tp wMin a = false; unfold kw; rw [hL]; rfl) S1 O1) (fun q => absurd rfl q)
    | true =>
      refine And.intro (fun q => absurd q (by decide)) (fun _ => And.intro (fun q => ?_) (fun q => ?_))
      · have hpr : prLD tp a = false := pr_ne p3 p7 p9 (by omega) (by omega) q
        have at17 : ∀ (m k : Nat), k + m = wEn tp a → a ≤ k → P 17 [some tM, some (.inr (.inr (some (.inl 256)))), some (iv (nI k)), none] [] s2 := by
          intro m
          have hwl : wEn tp a ≤ tp.length := endE_le isL p5
          have h3 : gI s2 200 3 = nI tp.length := p1.2
          have fin : ∀ k, k = wEn tp a → P 17 [some tM, some (.inr (.inr (some (.inl 256)))), some (iv (nI k)), none] [] s2 := by
            intro k hk
            subst hk
            have aw : a ≤ wEn tp a := endE_ge isL tp a
            have ed : nI (wEn tp a) - gI s2 200 2 = nI (wEn tp a - a) := by rw [p3]; exact nI_s1 _ _ aw
            have hsl := sub_len (tp := tp) (a := a) hwl
            have kwe : kw tp wMin a = decide (sub_ tp a (wEn tp a) = wMin) := by unfold kw; rw [hL, hpr]; rfl
            have at29 : P 29 [some tM, some (.inr (.inr (some (.inl 256)))), some (iv (nI (wEn tp a))), none] [] s2 := by
              refine hP _ _ _ _ (And.intro (fun q => ?_) (fun q => ⟨nar0, ?_, S1, O1⟩))
              · have q0 : nI (wEn tp a) - gI s2 200 2 = nI 3 := q
                rw [ed, nI_eq (by omega) (by omega)] at q0
                have at40 : ∀ (m i : Nat), i + m = 3 → (∀ j, j < i → tp[a + j]? = wMin[j]?) → P 40 [some tM, some (.inr (.inr (some (.inl 256)))), some (iv (nI (wEn tp a))), some (iv (nI i))] [] s2 := by
                  intro m
                  induction m with
                  | zero =>
                    intro i hi hall
                    refine hP _ _ _ _ (And.intro (fun _ => ⟨nar1, ?_, S1, O1⟩) (fun q => absurd (show nI 3 ≤ nI i from nI_le (by omega) (by omega)) q))
                    rw [show kwS tp wMin (.ok a) = true from ?_]
                    · rfl
                    · show kw tp wMin a = true
                      rw [kwe]
                      refine decide_eq_true (List.ext_getElem? (fun j => ?_))
                      by_cases hj : j < 3
                      · rw [sub_get (by omega)]; exact hall j (by omega)
                      · rw [List.getElem?_eq_none (by omega), List.getElem?_eq_none (show wMin.length ≤ j by show 3 ≤ j; omega)]
                  | succ m ih =>
                    intro i hi hall
                    have hil : a + i < tp.length := by omega
                    obtain ⟨c, hc⟩ : ∃ c, tp[a + i]? = some c := ⟨_, List.getElem?_eq_getElem hil⟩
                    obtain ⟨u, hu⟩ : ∃ u, wMin[i]? = some u := ⟨_, List.getElem?_eq_getElem (show i < wMin.length by show i < 3; omega)⟩
                    have hv := p1.1.2 _ c hc
                    have hu2 := hw1.1 i u hu
                    have ei : gI s2 200 2 + nI i = nI (a + i) := by rw [p3, nI_add]
                    have g1 : gI s2 201 (gI s2 200 2 + nI i).toNatClampNeg = nI c := by rw [ei, clN (by omega), hv.1]
                    have g2 : gI s2 256 (nI i).toNatClampNeg = nI u := by rw [clN (by omega), hu2]
                    have hub := hw1.2 u (List.mem_of_getElem? hu)
                    refine hP _ _ _ _ (And.intro (fun q => absurd q (show ¬ nI 3 ≤ nI i from nI_ge (by omega) (by omega))) (fun _ => And.intro (show vp_in (gI s2 200 2 + nI i) 1600 from by rw [ei]; exact vinN (by omega) (by decide)) (And.intro (show vp_in (nI i) 3 from vinN (by omega) (by decide)) (And.intro (fun q => ?_) (fun q => ⟨nar0, ?_, S1, O1⟩)))))
                    · have q1 : gI s2 201 (gI s2 200 2 + nI i).toNatClampNeg = gI s2 256 (nI i).toNatClampNeg := q
                      rw [g1, g2, nI_eq (by omega) (by omega)] at q1
                      show P 40 [some tM, some (.inr (.inr (some (.inl 256)))), some (iv (nI (wEn tp a))), some (iv (nI i + nI 1))] [] s2
                      rw [nI_add]
                      refine ih (i+1) (by omega) (fun j hj => ?_)
                      by_cases ej : j = i
                      · rw [ej, hc, hu, q1]
                      · exact hall j (by omega)
                    · have q1 : ¬ gI s2 201 (gI s2 200 2 + nI i).toNatClampNeg = gI s2 256 (nI i).toNatClampNeg := q
                      rw [g1, g2, nI_eq (by omega) (by omega)] at q1
                      rw [show kwS tp wMin (.ok a) = false from ?_]
                      · rfl
                      · show kw tp wMin a = false
                        rw [kwe]
                        refine decide_eq_false (fun e9 => q1 ?_)
                        have := sub_get (tp := tp) (a := a) (b := wEn tp a) (i := i) (by omega)
                        rw [e9, hc, hu] at this
                        cases this
                        rfl
                exact at40 3 0 (by omega) (fun j hj => absurd hj (Nat.not_lt_zero _))
              · have q0 : ¬ nI (wEn tp a) - gI s2 200 2 = nI 3 := q
                rw [ed, nI_eq (by omega) (by omega)] at q0
                rw [show kwS tp wMin (.ok a) = false from ?_]
                · rfl
                · show kw tp wMin a = false
                  rw [kwe]
                  refine decide_eq_false (fun e9 => q0 ?_)
                  rw [← hsl, e9]
                  rfl
            refine hP _ _ _ _ (And.intro (fun _ => at29) (fun q => ?_))
            have q0 : ¬ gI s2 200 3 ≤ nI (wEn tp a) := q
            rw [h3, nI_leI (by omega) (by omega)] at q0
            obtain ⟨c, hc⟩ : ∃ c, tp[wEn tp a]? = some c := ⟨_, List.getElem?_eq_getElem (by omega)⟩
            have hv := p1.1.2 _ c hc
            refine And.intro (show vp_in (nI (wEn tp a)) 1600 from vinN (by omega) (by decide)) ?_
            refine mcall (c_isLetter G g l d s2 _) (fun r s3 h8 => ?_)
            obtain ⟨rfl, rfl⟩ := h8
            rw [show gI s3 201 (nI (wEn tp a)).toNatClampNeg = byI tp (wEn tp a) by rw [clN (by omega), hv.1]; unfold byI; rw [hc]]
            rw [letB p1.1, show isAt isL tp (wEn tp a) = false from endE_end isL tp a]
            exact And.intro (fun _ => at29) (fun q => absurd rfl q)
          induction m with
          | zero => intro k hk hak; exact fin k (by omega)
          | succ m ih =>
            intro k hk hak
            have hkL : isAt isL tp k = true := endE_in (p := isL) (a := a) hak (by show k < wEn tp a; omega)
            have hkl := isAt_lt hkL
            obtain ⟨c, hc⟩ : ∃ c, tp[k]? = some c := ⟨_, List.getElem?_eq_getElem hkl⟩
            have hv := p1.1.2 _ c hc
            refine hP _ _ _ _ (And.intro (fun q => ?_) (fun _ => And.intro (show vp_in (nI k) 1600 from vinN (by omega) (by decide)) ?_))
            · have q0 : gI s2 200 3 ≤ nI k := q
              rw [h3, nI_leI (by omega) (by omega)] at q0
              omega
            refine mcall (c_isLetter G g l d s2 _) (fun r s3 h8 => ?_)
            obtain ⟨rfl, rfl⟩ := h8
            rw [show gI s3 201 (nI k).toNatClampNeg = byI tp k by rw [clN (by omega), hv.1]; unfold byI; rw [hc]]
            rw [letB p1.1, hkL]
            refine And.intro (fun q => absurd q (by decide)) (fun _ => ?_)
            show P 17 [some tM, some (.inr (.inr (some (.inl 256)))), some (iv (nI k + nI 1)), none] [] s3
            rw [nI_add]
            exact ih (k+1) (by omega) (by omega)
        show P 17 [some tM, some (.inr (.inr (some (.inl 256)))), some (iv (gI s2 200 2)), none] [] s2
        rw [p3]
        exact at17 (wEn tp a - a) a (by have := endE_ge isL tp a; show a + (endE isL tp a - a) = endE isL tp a; omega) (Nat.le_refl _)
      · have hpr : prLD tp a = true := pr_eq p3 p7 p9 (by omega) (by omega) q
        exact no s2 (by show kw tp wMin a = false; unfold kw; rw [hL, hpr]; rfl) S1 O1
theorem c_takes_256 (tp : List Nat) (S : Pos) (h : PX tp S σ) (hw : Wd 256 wMin σ) : MC G g l (d+3) mX6_takes [tM, .inr (.inr (some (.inl 256)))] σ (fun r t => r = some (iv (bI (kwS tp wMin S))) ∧ mS [2, 4] [] σ t ∧ PX tp (takS tp wMin S) t ∧ (kwS tp wMin S = false → PE tp S t)) := by
  refine MC0 tX6_takes rfl okX6_takes rfl rfl rfl rfl (fun P => ?_)
  refine mcall (c_isHere_256 G g l d σ tp S h hw) (fun r s1 h8 => ?_)
  obtain ⟨rfl, S1, E1⟩ := h8
  cases hk : kwS tp wMin S with
  | false => exact And.intro (fun q => absurd rfl q) (fun _ => ⟨nar0, rfl, S1.mono rfl rfl, takS_no hk E1, fun _ => E1⟩)
  | true =>
    refine And.intro (fun _ => ⟨nar1, rfl, ((S1.mono rfl rfl).f rfl).f rfl, ?_, fun q => by cases q⟩) (fun q => absurd q (by decide))
    exact takS_yes (n := 3) hk E1 rfl
theorem c_asks_256 (tp : List Nat) (S : Pos) (h : PX tp S σ) (hw : Wd 256 wMin σ) : MC G g l (d+4) mX6_asks [tM, .inr (.inr (some (.inl 256)))] σ (fun r t => r = none ∧ mS [2, 4, 5, 6] [] σ t ∧ PX tp (match S with
      | .ok a => askW tp wMin a
      | .error f => .error f) t) := by
  refine MC0 tX6_asks rfl okX6_asks rfl rfl rfl rfl (fun P => ?_)
  cases S with
  | error f => exact And.intro (fun _ => ⟨rfl, mS.rf, h⟩) (fun q => absurd q (pf_bad h))
  | ok a =>
    have p2 := h.elim (fun a' h => h.2.1)
    refine And.intro (fun q => absurd p2 q) (fun _ => ?_)
    refine mcall (c_takes_256 G g l d σ tp (.ok a) h hw) (fun r s1 h8 => ?_)
    obtain ⟨rfl, S1, X1, E1⟩ := h8
    cases hk : kwS tp wMin (.ok a) with
    | true =>
      refine And.intro (fun _ => ⟨rfl, S1.mono rfl rfl, ?_⟩) (fun q => absurd q (by decide))
      have hk0 : kw tp wMin a = true := hk
      show PX tp (askW tp wMin a) s1
      unfold askW
      rw [if_pos hk0]
      have : takS tp wMin (.ok a) = .ok (skp tp (a + wMin.length)) := if_pos hk0
      rw [this] at X1
      exact X1
    | false =>
      have hk0 : kw tp wMin a = false := hk
      have E2 : PO tp a a s1 := E1 hk
      refine And.intro (fun q => absurd rfl q) (fun _ => ?_)
      have hl := E2.1.len
      have ha := E2.2.2.2.2.1
      refine mcall (c_fail G g l (d+2) s1 tp (.ok a) ⟨a, E2⟩ _ _ 1 a rfl E2.2.2.1 (by omega) (by omega) (by omega)) (fun r s2 h8 => ?_)
      obtain ⟨rfl, S2, X2⟩ := h8
      refine ⟨rfl, (S1.mono rfl rfl).tr (S2.mono rfl rfl), ?_⟩
      show PX tp (askW tp wMin a) s2
      unfold askW
      rw [if_neg (by rw [hk0]; decide)]
      exact X2
set_option maxHeartbeats 1000000 in
theorem c_isHere_257 (tp : List Nat) (S : Pos) (h : PX tp S σ) (hw : Wd 257 wMax σ) : MC G g l (d+2) mX6_isHere [tM, .inr (.inr (some (.inl 257)))] σ (fun r t => r = some (iv (bI (kwS tp wMax S))) ∧ mS [2] [] σ t ∧ PE tp S t) := by
  refine MC1 tX6_isHere [12, 17, 29, 40] rfl okX6_isHere rfl rfl rfl rfl (fun P hP => ?_)
  have no : ∀ τ, kwS tp wMax S = false → mS [2] [] σ τ → PE tp S τ → P 12 [some tM, some (.inr (.inr (some (.inl 257)))), none, none] [] τ := fun τ e hS hE => hP _ _ _ _ ⟨nar0, by rw [e]; rfl, hS, hE⟩
  refine hP _ _ _ _ ?_
  cases S with
  | error f =>
    refine And.intro (fun _ => no σ rfl mS.rf h) (fun q => absurd q (pf_bad h))
  | ok a =>
    obtain ⟨a', h9⟩ := h
    refine And.intro (fun q => absurd h9.2.1 q) (fun _ => ?_)
    refine mcall (c_look G g l d σ tp a a' h9) (fun r s1 h8 => ?_)
    obtain ⟨rfl, S1, O1⟩ := h8
    have hw1 : Wd 257 wMax s1 := hw.keep S1 rfl rfl
    obtain ⟨p1, p2, p3, p4, p5, p6, e, p7, p8, p9, p10⟩ := O1
    have O1 : PO tp a a s1 := ⟨p1, p2, p3, p4, p5, p6, e, p7, p8, p9, p10⟩
    have hl := p1.len
    refine mcall (c_isLetter G g l d s1 (byI tp a)) (fun r s2 h8 => ?_)
    obtain ⟨rfl, rfl⟩ := h8
    rw [letB p1.1 a]
    cases hL : isAt isL tp a with
    | false => exact And.intro (fun _ => no s2 (by show kw tp wMax a = false; unfold kw; rw [hL]; rfl) S1 O1) (fun q => absurd rfl q)
    | true =>
      refine And.intro (fun q => absurd q (by decide)) (fun _ => And.intro (fun q => ?_) (fun q => ?_))
      · have hpr : prLD tp a = false := pr_ne p3 p7 p9 (by omega) (by omega) q
        have at17 : ∀ (m k : Nat), k + m = wEn tp a → a ≤ k → P 17 [some tM, some (.inr (.inr (some (.inl 257)))), some (iv (nI k)), none] [] s2 := by
          intro m
          have hwl : wEn tp a ≤ tp.length := endE_le isL p5
          have h3 : gI s2 200 3 = nI tp.length := p1.2
          have fin : ∀ k, k = wEn tp a → P 17 [some tM, some (.inr (.inr (some (.inl 257)))), some (iv (nI k)), none] [] s2 := by
            intro k hk
            subst hk
            have aw : a ≤ wEn tp a := endE_ge isL tp a
            have ed : nI (wEn tp a) - gI s2 200 2 = nI (wEn tp a - a) := by rw [p3]; exact nI_s1 _ _ aw
            have hsl := sub_len (tp := tp) (a := a) hwl
            have kwe : kw tp wMax a = decide (sub_ tp a (wEn tp a) = wMax) := by unfold kw; rw [hL, hpr]; rfl
            have at29 : P 29 [some tM, some (.inr (.inr (some (.inl 257)))), some (iv (nI (wEn tp a))), none] [] s2 := by
              refine hP _ _ _ _ (And.intro (fun q => ?_) (fun q => ⟨nar0, ?_, S1, O1⟩))
              · have q0 : nI (wEn tp a) - gI s2 200 2 = nI 3 := q
                rw [ed, nI_eq (by omega) (by omega)] at q0
                have at40 : ∀ (m i : Nat), i + m = 3 → (∀ j, j < i → tp[a + j]? = wMax[j]?) → P 40 [some tM, some (.inr (.inr (some (.inl 257)))), some (iv (nI (wEn tp a))), some (iv (nI i))] [] s2 := by
                  intro m
                  induction m with
                  | zero =>
                    intro i hi hall
                    refine hP _ _ _ _ (And.intro (fun _ => ⟨nar1, ?_, S1, O1⟩) (fun q => absurd (show nI 3 ≤ nI i from nI_le (by omega) (by omega)) q))
                    rw [show kwS tp wMax (.ok a) = true from ?_]
                    · rfl
                    · show kw tp wMax a = true
                      rw [kwe]
                      refine decide_eq_true (List.ext_getElem? (fun j => ?_))
                      by_cases hj : j < 3
                      · rw [sub_get (by omega)]; exact hall j (by omega)
                      · rw [List.getElem?_eq_none (by omega), List.getElem?_eq_none (show wMax.length ≤ j by show 3 ≤ j; omega)]
                  | succ m ih =>
                    intro i hi hall
                    have hil : a + i < tp.length := by omega
                    obtain ⟨c, hc⟩ : ∃ c, tp[a + i]? = some c := ⟨_, List.getElem?_eq_getElem hil⟩
                    obtain ⟨u, hu⟩ : ∃ u, wMax[i]? = some u := ⟨_, List.getElem?_eq_getElem (show i < wMax.length by show i < 3; omega)⟩
                    have hv := p1.1.2 _ c hc
                    have hu2 := hw1.1 i u hu
                    have ei : gI s2 200 2 + nI i = nI (a + i) := by rw [p3, nI_add]
                    have g1 : gI s2 201 (gI s2 200 2 + nI i).toNatClampNeg = nI c := by rw [ei, clN (by omega), hv.1]
                    have g2 : gI s2 257 (nI i).toNatClampNeg = nI u := by rw [clN (by omega), hu2]
                    have hub := hw1.2 u (List.mem_of_getElem? hu)
                    refine hP _ _ _ _ (And.intro (fun q => absurd q (show ¬ nI 3 ≤ nI i from nI_ge (by omega) (by omega))) (fun _ => And.intro (show vp_in (gI s2 200 2 + nI i) 1600 from by rw [ei]; exact vinN (by omega) (by decide)) (And.intro (show vp_in (nI i) 3 from vinN (by omega) (by decide)) (And.intro (fun q => ?_) (fun q => ⟨nar0, ?_, S1, O1⟩)))))
                    · have q1 : gI s2 201 (gI s2 200 2 + nI i).toNatClampNeg = gI s2 257 (nI i).toNatClampNeg := q
                      rw [g1, g2, nI_eq (by omega) (by omega)] at q1
                      show P 40 [some tM, some (.inr (.inr (some (.inl 257)))), some (iv (nI (wEn tp a))), some (iv (nI i + nI 1))] [] s2
                      rw [nI_add]
                      refine ih (i+1) (by omega) (fun j hj => ?_)
                      by_cases ej : j = i
                      · rw [ej, hc, hu, q1]
                      · exact hall j (by omega)
                    · have q1 : ¬ gI s2 201 (gI s2 200 2 + nI i).toNatClampNeg = gI s2 257 (nI i).toNatClampNeg := q
                      rw [g1, g2, nI_eq (by omega) (by omega)] at q1
                      rw [show kwS tp wMax (.ok a) = false from ?_]
                      · rfl
                      · show kw tp wMax a = false
                        rw [kwe]
                        refine decide_eq_false (fun e9 => q1 ?_)
                        have := sub_get (tp := tp) (a := a) (b := wEn tp a) (i := i) (by omega)
                        rw [e9, hc, hu] at this
                        cases this
                        rfl
                exact at40 3 0 (by omega) (fun j hj => absurd hj (Nat.not_lt_zero _))
              · have q0 : ¬ nI (wEn tp a) - gI s2 200 2 = nI 3 := q
                rw [ed, nI_eq (by omega) (by omega)] at q0
                rw [show kwS tp wMax (.ok a) = false from ?_]
                · rfl
                · show kw tp wMax a = false
                  rw [kwe]
                  refine decide_eq_false (fun e9 => q0 ?_)
                  rw [← hsl, e9]
                  rfl
            refine hP _ _ _ _ (And.intro (fun _ => at29) (fun q => ?_))
            have q0 : ¬ gI s2 200 3 ≤ nI (wEn tp a) := q
            rw [h3, nI_leI (by omega) (by omega)] at q0
            obtain ⟨c, hc⟩ : ∃ c, tp[wEn tp a]? = some c := ⟨_, List.getElem?_eq_getElem (by omega)⟩
            have hv := p1.1.2 _ c hc
            refine And.intro (show vp_in (nI (wEn tp a)) 1600 from vinN (by omega) (by decide)) ?_
            refine mcall (c_isLetter G g l d s2 _) (fun r s3 h8 => ?_)
            obtain ⟨rfl, rfl⟩ := h8
            rw [show gI s3 201 (nI (wEn tp a)).toNatClampNeg = byI tp (wEn tp a) by rw [clN (by omega), hv.1]; unfold byI; rw [hc]]
            rw [letB p1.1, show isAt isL tp (wEn tp a) = false from endE_end isL tp a]
            exact And.intro (fun _ => at29) (fun q => absurd rfl q)
          induction m with
          | zero => intro k hk hak; exact fin k (by omega)
          | succ m ih =>
            intro k hk hak
            have hkL : isAt isL tp k = true := endE_in (p := isL) (a := a) hak (by show k < wEn tp a; omega)
            have hkl := isAt_lt hkL
            obtain ⟨c, hc⟩ : ∃ c, tp[k]? = some c := ⟨_, List.getElem?_eq_getElem hkl⟩
            have hv := p1.1.2 _ c hc
            refine hP _ _ _ _ (And.intro (fun q => ?_) (fun _ => And.intro (show vp_in (nI k) 1600 from vinN (by omega) (by decide)) ?_))
            · have q0 : gI s2 200 3 ≤ nI k := q
              rw [h3, nI_leI (by omega) (by omega)] at q0
              omega
            refine mcall (c_isLetter G g l d s2 _) (fun r s3 h8 => ?_)
            obtain ⟨rfl, rfl⟩ := h8
            rw [show gI s3 201 (nI k).toNatClampNeg = byI tp k by rw [clN (by omega), hv.1]; unfold byI; rw [hc]]
            rw [letB p1.1, hkL]
            refine And.intro (fun q => absurd q (by decide)) (fun _ => ?_)
            show P 17 [some tM, some (.inr (.inr (some (.inl 257)))), some (iv (nI k + nI 1)), none] [] s3
            rw [nI_add]
            exact ih (k+1) (by omega) (by omega)
        show P 17 [some tM, some (.inr (.inr (some (.inl 257)))), some (iv (gI s2 200 2)), none] [] s2
        rw [p3]
        exact at17 (wEn tp a - a) a (by have := endE_ge isL tp a; show a + (endE isL tp a - a) = endE isL tp a; omega) (Nat.le_refl _)
      · have hpr : prLD tp a = true := pr_eq p3 p7 p9 (by omega) (by omega) q
        exact no s2 (by show kw tp wMax a = false; unfold kw; rw [hL, hpr]; rfl) S1 O1
theorem c_takes_257 (tp : List Nat) (S : Pos) (h : PX tp S σ) (hw : Wd 257 wMax σ) : MC G g l (d+3) mX6_takes [tM, .inr (.inr (some (.inl 257)))] σ (fun r t => r = some (iv (bI (kwS tp wMax S))) ∧ mS [2, 4] [] σ t ∧ PX tp (takS tp wMax S) t ∧ (kwS tp wMax S = false → PE tp S t)) := by
  refine MC0 tX6_takes rfl okX6_takes rfl rfl rfl rfl (fun P => ?_)
  refine mcall (c_isHere_257 G g l d σ tp S h hw) (fun r s1 h8 => ?_)
  obtain ⟨rfl, S1, E1⟩ := h8
  cases hk : kwS tp wMax S with
  | false => exact And.intro (fun q => absurd rfl q) (fun _ => ⟨nar0, rfl, S1.mono rfl rfl, takS_no hk E1, fun _ => E1⟩)
  | true =>
    refine And.intro (fun _ => ⟨nar1, rfl, ((S1.mono rfl rfl).f rfl).f rfl, ?_, fun q => by cases q⟩) (fun q => absurd q (by decide))
    exact takS_yes (n := 3) hk E1 rfl
theorem c_asks_257 (tp : List Nat) (S : Pos) (h : PX tp S σ) (hw : Wd 257 wMax σ) : MC G g l (d+4) mX6_asks [tM, .inr (.inr (some (.inl 257)))] σ (fun r t => r = none ∧ mS [2, 4, 5, 6] [] σ t ∧ PX tp (match S with
      | .ok a => askW tp wMax a
      | .error f => .error f) t) := by
  refine MC0 tX6_asks rfl okX6_asks rfl rfl rfl rfl (fun P => ?_)
  cases S with
  | error f => exact And.intro (fun _ => ⟨rfl, mS.rf, h⟩) (fun q => absurd q (pf_bad h))
  | ok a =>
    have p2 := h.elim (fun a' h => h.2.1)
    refine And.intro (fun q => absurd p2 q) (fun _ => ?_)
    refine mcall (c_takes_257 G g l d σ tp (.ok a) h hw) (fun r s1 h8 => ?_)
    obtain ⟨rfl, S1, X1, E1⟩ := h8
    cases hk : kwS tp wMax (.ok a) with
    | true =>
      refine And.intro (fun _ => ⟨rfl, S1.mono rfl rfl, ?_⟩) (fun q => absurd q (by decide))
      have hk0 : kw tp wMax a = true := hk
      show PX tp (askW tp wMax a) s1
      unfold askW
      rw [if_pos hk0]
      have : takS tp wMax (.ok a) = .ok (skp tp (a + wMax.length)) := if_pos hk0
      rw [this] at X1
      exact X1
    | false =>
      have hk0 : kw tp wMax a = false := hk
      have E2 : PO tp a a s1 := E1 hk
      refine And.intro (fun q => absurd rfl q) (fun _ => ?_)
      have hl := E2.1.len
      have ha := E2.2.2.2.2.1
      refine mcall (c_fail G g l (d+2) s1 tp (.ok a) ⟨a, E2⟩ _ _ 1 a rfl E2.2.2.1 (by omega) (by omega) (by omega)) (fun r s2 h8 => ?_)
      obtain ⟨rfl, S2, X2⟩ := h8
      refine ⟨rfl, (S1.mono rfl rfl).tr (S2.mono rfl rfl), ?_⟩
      show PX tp (askW tp wMax a) s2
      unfold askW
      rw [if_neg (by rw [hk0]; decide)]
      exact X2
set_option maxHeartbeats 1000000 in
theorem c_isHere_258 (tp : List Nat) (S : Pos) (h : PX tp S σ) (hw : Wd 258 wHour σ) : MC G g l (d+2) mX6_isHere [tM, .inr (.inr (some (.inl 258)))] σ (fun r t => r = some (iv (bI (kwS tp wHour S))) ∧ mS [2] [] σ t ∧ PE tp S t) := by
  refine MC1 tX6_isHere [12, 17, 29, 40] rfl okX6_isHere rfl rfl rfl rfl (fun P hP => ?_)
  have no : ∀ τ, kwS tp wHour S = false → mS [2] [] σ τ → PE tp S τ → P 12 [some tM, some (.inr (.inr (some (.inl 258)))), none, none] [] τ := fun τ e hS hE => hP _ _ _ _ ⟨nar0, by rw [e]; rfl, hS, hE⟩
  refine hP _ _ _ _ ?_
  cases S with
  | error f =>
    refine And.intro (fun _ => no σ rfl mS.rf h) (fun q => absurd q (pf_bad h))
  | ok a =>
    obtain ⟨a', h9⟩ := h
    refine And.intro (fun q => absurd h9.2.1 q) (fun _ => ?_)
    refine mcall (c_look G g l d σ tp a a' h9) (fun r s1 h8 => ?_)
    obtain ⟨rfl, S1, O1⟩ := h8
    have hw1 : Wd 258 wHour s1 := hw.keep S1 rfl rfl
    obtain ⟨p1, p2, p3, p4, p5, p6, e, p7, p8, p9, p10⟩ := O1
    have O1 : PO tp a a s1 := ⟨p1, p2, p3, p4, p5, p6, e, p7, p8, p9, p10⟩
    have hl := p1.len
    refine mcall (c_isLetter G g l d s1 (byI tp a)) (fun r s2 h8 => ?_)
    obtain ⟨rfl, rfl⟩ := h8
    rw [letB p1.1 a]
    cases hL : isAt isL tp a with
    | false => exact And.intro (fun _ => no s2 (by show kw tp wHour a = false; unfold kw; rw [hL]; rfl) S1 O1) (fun q => absurd rfl q)
    | true =>
      refine And.intro (fun q => absurd q (by decide)) (fun _ => And.intro (fun q => ?_) (fun q => ?_))
      · have hpr : prLD tp a = false := pr_ne p3 p7 p9 (by omega) (by omega) q
        have at17 : ∀ (m k : Nat), k + m = wEn tp a → a ≤ k → P 17 [some tM, some (.inr (.inr (some (.inl 258)))), some (iv (nI k)), none] [] s2 := by
          intro m
          have hwl : wEn tp a ≤ tp.length := endE_le isL p5
          have h3 : gI s2 200 3 = nI tp.length := p1.2
          have fin : ∀ k, k = wEn tp a → P 17 [some tM, some (.inr (.inr (some (.inl 258)))), some (iv (nI k)), none] [] s2 := by
            intro k hk
            subst hk
            have aw : a ≤ wEn tp a := endE_ge isL tp a
            have ed : nI (wEn tp a) - gI s2 200 2 = nI (wEn tp a - a) := by rw [p3]; exact nI_s1 _ _ aw
            have hsl := sub_len (tp := tp) (a := a) hwl
            have kwe : kw tp wHour a = decide (sub_ tp a (wEn tp a) = wHour) := by unfold kw; rw [hL, hpr]; rfl
            have at29 : P 29 [some tM, some (.inr (.inr (some (.inl 258)))), some (iv (nI (wEn tp a))), none] [] s2 := by
              refine hP _ _ _ _ (And.intro (fun q => ?_) (fun q => ⟨nar0, ?_, S1, O1⟩))
              · have q0 : nI (wEn tp a) - gI s2 200 2 = nI 4 := q
                rw [ed, nI_eq (by omega) (by omega)] at q0
                have at40 : ∀ (m i : Nat), i + m = 4 → (∀ j, j < i → tp[a + j]? = wHour[j]?) → P 40 [some tM, some (.inr (.inr (some (.inl 258)))), some (iv (nI (wEn tp a))), some (iv (nI i))] [] s2 := by
                  intro m
                  induction m with
                  | zero =>
                    intro i hi hall
                    refine hP _ _ _ _ (And.intro (fun _ => ⟨nar1, ?_, S1, O1⟩) (fun q => absurd (show nI 4 ≤ nI i from nI_le (by omega) (by omega)) q))
                    rw [show kwS tp wHour (.ok a) = true from ?_]
                    · rfl
                    · show kw tp wHour a = true
                      rw [kwe]
                      refine decide_eq_true (List.ext_getElem? (fun j => ?_))
                      by_cases hj : j < 4
                      · rw [sub_get (by omega)]; exact hall j (by omega)
                      · rw [List.getElem?_eq_none (by omega), List.getElem?_eq_none (show wHour.length ≤ j by show 4 ≤ j; omega)]
                  | succ m ih =>
                    intro i hi hall
                    have hil : a + i < tp.length := by omega
                    obtain ⟨c, hc⟩ : ∃ c, tp[a + i]? = some c := ⟨_, List.getElem?_eq_getElem hil⟩
                    obtain ⟨u, hu⟩ : ∃ u, wHour[i]? = some u := ⟨_, List.getElem?_eq_getElem (show i < wHour.length by show i < 4; omega)⟩
                    have hv := p1.1.2 _ c hc
                    have hu2 := hw1.1 i u hu
                    have ei : gI s2 200 2 + nI i = nI (a + i) := by rw [p3, nI_add]
                    have g1 : gI s2 201 (gI s2 200 2 + nI i).toNatClampNeg = nI c := by rw [ei, clN (by omega), hv.1]
                    have g2 : gI s2 258 (nI i).toNatClampNeg = nI u := by rw [clN (by omega), hu2]
                    have hub := hw1.2 u (List.mem_of_getElem? hu)
                    refine hP _ _ _ _ (And.intro (fun q => absurd q (show ¬ nI 4 ≤ nI i from nI_ge (by omega) (by omega))) (fun _ => And.intro (show vp_in (gI s2 200 2 + nI i) 1600 from by rw [ei]; exact vinN (by omega) (by decide)) (And.intro (show vp_in (nI i) 4 from vinN (by omega) (by decide)) (And.intro (fun q => ?_) (fun q => ⟨nar0, ?_, S1, O1⟩)))))
                    · have q1 : gI s2 201 (gI s2 200 2 + nI i).toNatClampNeg = gI s2 258 (nI i).toNatClampNeg := q
                      rw [g1, g2, nI_eq (by omega) (by omega)] at q1
                      show P 40 [some tM, some (.inr (.inr (some (.inl 258)))), some (iv (nI (wEn tp a))), some (iv (nI i + nI 1))] [] s2
                      rw [nI_add]
                      refine ih (i+1) (by omega) (fun j hj => ?_)
                      by_cases ej : j = i
                      · rw [ej, hc, hu, q1]
                      · exact hall j (by omega)
                    · have q1 : ¬ gI s2 201 (gI s2 200 2 + nI i).toNatClampNeg = gI s2 258 (nI i).toNatClampNeg := q
                      rw [g1, g2, nI_eq (by omega) (by omega)] at q1
                      rw [show kwS tp wHour (.ok a) = false from ?_]
                      · rfl
                      · show kw tp wHour a = false
                        rw [kwe]
                        refine decide_eq_false (fun e9 => q1 ?_)
                        have := sub_get (tp := tp) (a := a) (b := wEn tp a) (i := i) (by omega)
                        rw [e9, hc, hu] at this
                        cases this
                        rfl
                exact at40 4 0 (by omega) (fun j hj => absurd hj (Nat.not_lt_zero _))
              · have q0 : ¬ nI (wEn tp a) - gI s2 200 2 = nI 4 := q
                rw [ed, nI_eq (by omega) (by omega)] at q0
                rw [show kwS tp wHour (.ok a) = false from ?_]
                · rfl
                · show kw tp wHour a = false
                  rw [kwe]
                  refine decide_eq_false (fun e9 => q0 ?_)
                  rw [← hsl, e9]
                  rfl
            refine hP _ _ _ _ (And.intro (fun _ => at29) (fun q => ?_))
            have q0 : ¬ gI s2 200 3 ≤ nI (wEn tp a) := q
            rw [h3, nI_leI (by omega) (by omega)] at q0
            obtain ⟨c, hc⟩ : ∃ c, tp[wEn tp a]? = some c := ⟨_, List.getElem?_eq_getElem (by omega)⟩
            have hv := p1.1.2 _ c hc
            refine And.intro (show vp_in (nI (wEn tp a)) 1600 from vinN (by omega) (by decide)) ?_
            refine mcall (c_isLetter G g l d s2 _) (fun r s3 h8 => ?_)
            obtain ⟨rfl, rfl⟩ := h8
            rw [show gI s3 201 (nI (wEn tp a)).toNatClampNeg = byI tp (wEn tp a) by rw [clN (by omega), hv.1]; unfold byI; rw [hc]]
            rw [letB p1.1, show isAt isL tp (wEn tp a) = false from endE_end isL tp a]
            exact And.intro (fun _ => at29) (fun q => absurd rfl q)
          induction m with
          | zero => intro k hk hak; exact fin k (by omega)
          | succ m ih =>
            intro k hk hak
            have hkL : isAt isL tp k = true := endE_in (p := isL) (a := a) hak (by show k < wEn tp a; omega)
            have hkl := isAt_lt hkL
            obtain ⟨c, hc⟩ : ∃ c, tp[k]? = some c := ⟨_, List.getElem?_eq_getElem hkl⟩
            have hv := p1.1.2 _ c hc
            refine hP _ _ _ _ (And.intro (fun q => ?_) (fun _ => And.intro (show vp_in (nI k) 1600 from vinN (by omega) (by decide)) ?_))
            · have q0 : gI s2 200 3 ≤ nI k := q
              rw [h3, nI_leI (by omega) (by omega)] at q0
              omega
            refine mcall (c_isLetter G g l d s2 _) (fun r s3 h8 => ?_)
            obtain ⟨rfl, rfl⟩ := h8
            rw [show gI s3 201 (nI k).toNatClampNeg = byI tp k by rw [clN (by omega), hv.1]; unfold byI; rw [hc]]
            rw [letB p1.1, hkL]
            refine And.intro (fun q => absurd q (by decide)) (fun _ => ?_)
            show P 17 [some tM, some (.inr (.inr (some (.inl 258)))), some (iv (nI k + nI 1)), none] [] s3
            rw [nI_add]
            exact ih (k+1) (by omega) (by omega)
        show P 17 [some tM, some (.inr (.inr (some (.inl 258)))), some (iv (gI s2 200 2)), none] [] s2
        rw [p3]
        exact at17 (wEn tp a - a) a (by have := endE_ge isL tp a; show a + (endE isL tp a - a) = endE isL tp a; omega) (Nat.le_refl _)
      · have hpr : prLD tp a = true := pr_eq p3 p7 p9 (by omega) (by omega) q
        exact no s2 (by show kw tp wHour a = false; unfold kw; rw [hL, hpr]; rfl) S1 O1
theorem c_takes_258 (tp : List Nat) (S : Pos) (h : PX tp S σ) (hw : Wd 258 wHour σ) : MC G g l (d+3) mX6_takes [tM, .inr (.inr (some (.inl 258)))] σ (fun r t => r = some (iv (bI (kwS tp wHour S))) ∧ mS [2, 4] [] σ t ∧ PX tp (takS tp wHour S) t ∧ (kwS tp wHour S = false → PE tp S t)) := by
  refine MC0 tX6_takes rfl okX6_takes rfl rfl rfl rfl (fun P => ?_)
  refine mcall (c_isHere_258 G g l d σ tp S h hw) (fun r s1 h8 => ?_)
  obtain ⟨rfl, S1, E1⟩ := h8
  cases hk : kwS tp wHour S with
  | false => exact And.intro (fun q => absurd rfl q) (fun _ => ⟨nar0, rfl, S1.mono rfl rfl, takS_no hk E1, fun _ => E1⟩)
  | true =>
    refine And.intro (fun _ => ⟨nar1, rfl, ((S1.mono rfl rfl).f rfl).f rfl, ?_, fun q => by cases q⟩) (fun q => absurd q (by decide))
    exact takS_yes (n := 4) hk E1 rfl
theorem c_asks_258 (tp : List Nat) (S : Pos) (h : PX tp S σ) (hw : Wd 258 wHour σ) : MC G g l (d+4) mX6_asks [tM, .inr (.inr (some (.inl 258)))] σ (fun r t => r = none ∧ mS [2, 4, 5, 6] [] σ t ∧ PX tp (match S with
      | .ok a => askW tp wHour a
      | .error f => .error f) t) := by
  refine MC0 tX6_asks rfl okX6_asks rfl rfl rfl rfl (fun P => ?_)
  cases S with
  | error f => exact And.intro (fun _ => ⟨rfl, mS.rf, h⟩) (fun q => absurd q (pf_bad h))
  | ok a =>
    have p2 := h.elim (fun a' h => h.2.1)
    refine And.intro (fun q => absurd p2 q) (fun _ => ?_)
    refine mcall (c_takes_258 G g l d σ tp (.ok a) h hw) (fun r s1 h8 => ?_)
    obtain ⟨rfl, S1, X1, E1⟩ := h8
    cases hk : kwS tp wHour (.ok a) with
    | true =>
      refine And.intro (fun _ => ⟨rfl, S1.mono rfl rfl, ?_⟩) (fun q => absurd q (by decide))
      have hk0 : kw tp wHour a = true := hk
      show PX tp (askW tp wHour a) s1
      unfold askW
      rw [if_pos hk0]
      have : takS tp wHour (.ok a) = .ok (skp tp (a + wHour.length)) := if_pos hk0
      rw [this] at X1
      exact X1
    | false =>
      have hk0 : kw tp wHour a = false := hk
      have E2 : PO tp a a s1 := E1 hk
      refine And.intro (fun q => absurd rfl q) (fun _ => ?_)
      have hl := E2.1.len
      have ha := E2.2.2.2.2.1
      refine mcall (c_fail G g l (d+2) s1 tp (.ok a) ⟨a, E2⟩ _ _ 1 a rfl E2.2.2.1 (by omega) (by omega) (by omega)) (fun r s2 h8 => ?_)
      obtain ⟨rfl, S2, X2⟩ := h8
      refine ⟨rfl, (S1.mono rfl rfl).tr (S2.mono rfl rfl), ?_⟩
      show PX tp (askW tp wHour a) s2
      unfold askW
      rw [if_neg (by rw [hk0]; decide)]
      exact X2
set_option maxHeartbeats 1000000 in
theorem c_isHere_259 (tp : List Nat) (S : Pos) (h : PX tp S σ) (hw : Wd 259 wClock σ) : MC G g l (d+2) mX6_isHere [tM, .inr (.inr (some (.inl 259)))] σ (fun r t => r = some (iv (bI (kwS tp wClock S))) ∧ mS [2] [] σ t ∧ PE tp S t) := by
  refine MC1 tX6_isHere [12, 17, 29, 40] rfl okX6_isHere rfl rfl rfl rfl (fun P hP => ?_)
  have no : ∀ τ, kwS tp wClock S = false → mS [2] [] σ τ → PE tp S τ → P 12 [some tM, some (.inr (.inr (some (.inl 259)))), none, none] [] τ := fun τ e hS hE => hP _ _ _ _ ⟨nar0, by rw [e]; rfl, hS, hE⟩
  refine hP _ _ _ _ ?_
  cases S with
  | error f =>
    refine And.intro (fun _ => no σ rfl mS.rf h) (fun q => absurd q (pf_bad h))
  | ok a =>
    obtain ⟨a', h9⟩ := h
    refine And.intro (fun q => absurd h9.2.1 q) (fun _ => ?_)
    refine mcall (c_look G g l d σ tp a a' h9) (fun r s1 h8 => ?_)
    obtain ⟨rfl, S1, O1⟩ := h8
    have hw1 : Wd 259 wClock s1 := hw.keep S1 rfl rfl
    obtain ⟨p1, p2, p3, p4, p5, p6, e, p7, p8, p9, p10⟩ := O1
    have O1 : PO tp a a s1 := ⟨p1, p2, p3, p4, p5, p6, e, p7, p8, p9, p10⟩
    have hl := p1.len
    refine mcall (c_isLetter G g l d s1 (byI tp a)) (fun r s2 h8 => ?_)
    obtain ⟨rfl, rfl⟩ := h8
    rw [letB p1.1 a]
    cases hL : isAt isL tp a with
    | false => exact And.intro (fun _ => no s2 (by show kw tp wClock a = false; unfold kw; rw [hL]; rfl) S1 O1) (fun q => absurd rfl q)
    | true =>
      refine And.intro (fun q => absurd q (by decide)) (fun _ => And.intro (fun q => ?_) (fun q => ?_))
      · have hpr : prLD tp a = false := pr_ne p3 p7 p9 (by omega) (by omega) q
        have at17 : ∀ (m k : Nat), k + m = wEn tp a → a ≤ k → P 17 [some tM, some (.inr (.inr (some (.inl 259)))), some (iv (nI k)), none] [] s2 := by
          intro m
          have hwl : wEn tp a ≤ tp.length := endE_le isL p5
          have h3 : gI s2 200 3 = nI tp.length := p1.2
          have fin : ∀ k, k = wEn tp a → P 17 [some tM, some (.inr (.inr (some (.inl 259)))), some (iv (nI k)), none] [] s2 := by
            intro k hk
            subst hk
            have aw : a ≤ wEn tp a := endE_ge isL tp a
            have ed : nI (wEn tp a) - gI s2 200 2 = nI (wEn tp a - a) := by rw [p3]; exact nI_s1 _ _ aw
            have hsl := sub_len (tp := tp) (a := a) hwl
            have kwe : kw tp wClock a = decide (sub_ tp a (wEn tp a) = wClock) := by unfold kw; rw [hL, hpr]; rfl
            have at29 : P 29 [some tM, some (.inr (.inr (some (.inl 259)))), some (iv (nI (wEn tp a))), none] [] s2 := by
              refine hP _ _ _ _ (And.intro (fun q => ?_) (fun q => ⟨nar0, ?_, S1, O1⟩))
              · have q0 : nI (wEn tp a) - gI s2 200 2 = nI 5 := q
                rw [ed, nI_eq (by omega) (by omega)] at q0
                have at40 : ∀ (m i : Nat), i + m = 5 → (∀ j, j < i → tp[a + j]? = wClock[j]?) → P 40 [some tM, some (.inr (.inr (some (.inl 259)))), some (iv (nI (wEn tp a))), some (iv (nI i))] [] s2 := by
                  intro m
                  induction m with
                  | zero =>
                    intro i hi hall
                    refine hP _ _ _ _ (And.intro (fun _ => ⟨nar1, ?_, S1, O1⟩) (fun q => absurd (show nI 5 ≤ nI i from nI_le (by omega) (by omega)) q))
                    rw [show kwS tp wClock (.ok a) = true from ?_]
                    · rfl
                    · show kw tp wClock a = true
                      rw [kwe]
                      refine decide_eq_true (List.ext_getElem? (fun j => ?_))
                      by_cases hj : j < 5
                      · rw [sub_get (by omega)]; exact hall j (by omega)
                      · rw [List.getElem?_eq_none (by omega), List.getElem?_eq_none (show wClock.length ≤ j by show 5 ≤ j; omega)]
                  | succ m ih =>
                    intro i hi hall
                    have hil : a + i < tp.length := by omega
                    obtain ⟨c, hc⟩ : ∃ c, tp[a + i]? = some c := ⟨_, List.getElem?_eq_getElem hil⟩
                    obtain ⟨u, hu⟩ : ∃ u, wClock[i]? = some u := ⟨_, List.getElem?_eq_getElem (show i < wClock.length by show i < 5; omega)⟩
                    have hv := p1.1.2 _ c hc
                    have hu2 := hw1.1 i u hu
                    have ei : gI s2 200 2 + nI i = nI (a + i) := by rw [p3, nI_add]
                    have g1 : gI s2 201 (gI s2 200 2 + nI i).toNatClampNeg = nI c := by rw [ei, clN (by omega), hv.1]
                    have g2 : gI s2 259 (nI i).toNatClampNeg = nI u := by rw [clN (by omega), hu2]
                    have hub := hw1.2 u (List.mem_of_getElem? hu)
                    refine hP _ _ _ _ (And.intro (fun q => absurd q (show ¬ nI 5 ≤ nI i from nI_ge (by omega) (by omega))) (fun _ => And.intro (show vp_in (gI s2 200 2 + nI i) 1600 from by rw [ei]; exact vinN (by omega) (by decide)) (And.intro (show vp_in (nI i) 5 from vinN (by omega) (by decide)) (And.intro (fun q => ?_) (fun q => ⟨nar0, ?_, S1, O1⟩)))))
                    · have q1 : gI s2 201 (gI s2 200 2 + nI i).toNatClampNeg = gI s2 259 (nI i).toNatClampNeg := q
                      rw [g1, g2, nI_eq (by omega) (by omega)] at q1
                      show P 40 [some tM, some (.inr (.inr (some (.inl 259)))), some (iv (nI (wEn tp a))), some (iv (nI i + nI 1))] [] s2
                      rw [nI_add]
                      refine ih (i+1) (by omega) (fun j hj => ?_)
                      by_cases ej : j = i
                      · rw [ej, hc, hu, q1]
                      · exact hall j (by omega)
                    · have q1 : ¬ gI s2 201 (gI s2 200 2 + nI i).toNatClampNeg = gI s2 259 (nI i).toNatClampNeg := q
                      rw [g1, g2, nI_eq (by omega) (by omega)] at q1
                      rw [show kwS tp wClock (.ok a) = false from ?_]
                      · rfl
                      · show kw tp wClock a = false
                        rw [kwe]
                        refine decide_eq_false (fun e9 => q1 ?_)
                        have := sub_get (tp := tp) (a := a) (b := wEn tp a) (i := i) (by omega)
                        rw [e9, hc, hu] at this
                        cases this
                        rfl
                exact at40 5 0 (by omega) (fun j hj => absurd hj (Nat.not_lt_zero _))
              · have q0 : ¬ nI (wEn tp a) - gI s2 200 2 = nI 5 := q
                rw [ed, nI_eq (by omega) (by omega)] at q0
                rw [show kwS tp wClock (.ok a) = false from ?_]
                · rfl
                · show kw tp wClock a = false
                  rw [kwe]
                  refine decide_eq_false (fun e9 => q0 ?_)
                  rw [← hsl, e9]
                  rfl
            refine hP _ _ _ _ (And.intro (fun _ => at29) (fun q => ?_))
            have q0 : ¬ gI s2 200 3 ≤ nI (wEn tp a) := q
            rw [h3, nI_leI (by omega) (by omega)] at q0
            obtain ⟨c, hc⟩ : ∃ c, tp[wEn tp a]? = some c := ⟨_, List.getElem?_eq_getElem (by omega)⟩
            have hv := p1.1.2 _ c hc
            refine And.intro (show vp_in (nI (wEn tp a)) 1600 from vinN (by omega) (by decide)) ?_
            refine mcall (c_isLetter G g l d s2 _) (fun r s3 h8 => ?_)
            obtain ⟨rfl, rfl⟩ := h8
            rw [show gI s3 201 (nI (wEn tp a)).toNatClampNeg = byI tp (wEn tp a) by rw [clN (by omega), hv.1]; unfold byI; rw [hc]]
            rw [letB p1.1, show isAt isL tp (wEn tp a) = false from endE_end isL tp a]
            exact And.intro (fun _ => at29) (fun q => absurd rfl q)
          induction m with
          | zero => intro k hk hak; exact fin k (by omega)
          | succ m ih =>
            intro k hk hak
            have hkL : isAt isL tp k = true := endE_in (p := isL) (a := a) hak (by show k < wEn tp a; omega)
            have hkl := isAt_lt hkL
            obtain ⟨c, hc⟩ : ∃ c, tp[k]? = some c := ⟨_, List.getElem?_eq_getElem hkl⟩
            have hv := p1.1.2 _ c hc
            refine hP _ _ _ _ (And.intro (fun q => ?_) (fun _ => And.intro (show vp_in (nI k) 1600 from vinN (by omega) (by decide)) ?_))
            · have q0 : gI s2 200 3 ≤ nI k := q
              rw [h3, nI_leI (by omega) (by omega)] at q0
              omega
            refine mcall (c_isLetter G g l d s2 _) (fun r s3 h8 => ?_)
            obtain ⟨rfl, rfl⟩ := h8
            rw [show gI s3 201 (nI k).toNatClampNeg = byI tp k by rw [clN (by omega), hv.1]; unfold byI; rw [hc]]
            rw [letB p1.1, hkL]
            refine And.intro (fun q => absurd q (by decide)) (fun _ => ?_)
            show P 17 [some tM, some (.inr (.inr (some (.inl 259)))), some (iv (nI k + nI 1)), none] [] s3
            rw [nI_add]
            exact ih (k+1) (by omega) (by omega)
        show P 17 [some tM, some (.inr (.inr (some (.inl 259)))), some (iv (gI s2 200 2)), none] [] s2
        rw [p3]
        exact at17 (wEn tp a - a) a (by have := endE_ge isL tp a; show a + (endE isL tp a - a) = endE isL tp a; omega) (Nat.le_refl _)
      · have hpr : prLD tp a = true := pr_eq p3 p7 p9 (by omega) (by omega) q
        exact no s2 (by show kw tp wClock a = false; unfold kw; rw [hL, hpr]; rfl) S1 O1
theorem c_takes_259 (tp : List Nat) (S : Pos) (h : PX tp S σ) (hw : Wd 259 wClock σ) : MC G g l (d+3) mX6_takes [tM, .inr (.inr (some (.inl 259)))] σ (fun r t => r = some (iv (bI (kwS tp wClock S))) ∧ mS [2, 4] [] σ t ∧ PX tp (takS tp wClock S) t ∧ (kwS tp wClock S = false → PE tp S t)) := by
  refine MC0 tX6_takes rfl okX6_takes rfl rfl rfl rfl (fun P => ?_)
  refine mcall (c_isHere_259 G g l d σ tp S h hw) (fun r s1 h8 => ?_)
  obtain ⟨rfl, S1, E1⟩ := h8
  cases hk : kwS tp wClock S with
  | false => exact And.intro (fun q => absurd rfl q) (fun _ => ⟨nar0, rfl, S1.mono rfl rfl, takS_no hk E1, fun _ => E1⟩)
  | true =>
    refine And.intro (fun _ => ⟨nar1, rfl, ((S1.mono rfl rfl).f rfl).f rfl, ?_, fun q => by cases q⟩) (fun q => absurd q (by decide))
    exact takS_yes (n := 5) hk E1 rfl
theorem c_asks_259 (tp : List Nat) (S : Pos) (h : PX tp S σ) (hw : Wd 259 wClock σ) : MC G g l (d+4) mX6_asks [tM, .inr (.inr (some (.inl 259)))] σ (fun r t => r = none ∧ mS [2, 4, 5, 6] [] σ t ∧ PX tp (match S with
      | .ok a => askW tp wClock a
      | .error f => .error f) t) := by
  refine MC0 tX6_asks rfl okX6_asks rfl rfl rfl rfl (fun P => ?_)
  cases S with
  | error f => exact And.intro (fun _ => ⟨rfl, mS.rf, h⟩) (fun q => absurd q (pf_bad h))
  | ok a =>
    have p2 := h.elim (fun a' h => h.2.1)
    refine And.intro (fun q => absurd p2 q) (fun _ => ?_)
    refine mcall (c_takes_259 G g l d σ tp (.ok a) h hw) (fun r s1 h8 => ?_)
    obtain ⟨rfl, S1, X1, E1⟩ := h8
    cases hk : kwS tp wClock (.ok a) with
    | true =>
      refine And.intro (fun _ => ⟨rfl, S1.mono rfl rfl, ?_⟩) (fun q => absurd q (by decide))
      have hk0 : kw tp wClock a = true := hk
      show PX tp (askW tp wClock a) s1
      unfold askW
      rw [if_pos hk0]
      have : takS tp wClock (.ok a) = .ok (skp tp (a + wClock.length)) := if_pos hk0
      rw [this] at X1
      exact X1
    | false =>
      have hk0 : kw tp wClock a = false := hk
      have E2 : PO tp a a s1 := E1 hk
      refine And.intro (fun q => absurd rfl q) (fun _ => ?_)
      have hl := E2.1.len
      have ha := E2.2.2.2.2.1
      refine mcall (c_fail G g l (d+2) s1 tp (.ok a) ⟨a, E2⟩ _ _ 1 a rfl E2.2.2.1 (by omega) (by omega) (by omega)) (fun r s2 h8 => ?_)
      obtain ⟨rfl, S2, X2⟩ := h8
      refine ⟨rfl, (S1.mono rfl rfl).tr (S2.mono rfl rfl), ?_⟩
      show PX tp (askW tp wClock a) s2
      unfold askW
      rw [if_neg (by rw [hk0]; decide)]
      exact X2
set_option maxHeartbeats 1000000 in
theorem c_isHere_260 (tp : List Nat) (S : Pos) (h : PX tp S σ) (hw : Wd 260 wDay σ) : MC G g l (d+2) mX6_isHere [tM, .inr (.inr (some (.inl 260)))] σ (fun r t => r = some (iv (bI (kwS tp wDay S))) ∧ mS [2] [] σ t ∧ PE tp S t) := by
  refine MC1 tX6_isHere [12, 17, 29, 40] rfl okX6_isHere rfl rfl rfl rfl (fun P hP => ?_)
  have no : ∀ τ, kwS tp wDay S = false → mS [2] [] σ τ → PE tp S τ → P 12 [some tM, some (.inr (.inr (some (.inl 260)))), none, none] [] τ := fun τ e hS hE => hP _ _ _ _ ⟨nar0, by rw [e]; rfl, hS, hE⟩
  refine hP _ _ _ _ ?_
  cases S with
  | error f =>
    refine And.intro (fun _ => no σ rfl mS.rf h) (fun q => absurd q (pf_bad h))
  | ok a =>
    obtain ⟨a', h9⟩ := h
    refine And.intro (fun q => absurd h9.2.1 q) (fun _ => ?_)
    refine mcall (c_look G g l d σ tp a a' h9) (fun r s1 h8 => ?_)
    obtain ⟨rfl, S1, O1⟩ := h8
    have hw1 : Wd 260 wDay s1 := hw.keep S1 rfl rfl
    obtain ⟨p1, p2, p3, p4, p5, p6, e, p7, p8, p9, p10⟩ := O1
    have O1 : PO tp a a s1 := ⟨p1, p2, p3, p4, p5, p6, e, p7, p8, p9, p10⟩
    have hl := p1.len
    refine mcall (c_isLetter G g l d s1 (byI tp a)) (fun r s2 h8 => ?_)
    obtain ⟨rfl, rfl⟩ := h8
    rw [letB p1.1 a]
    cases hL : isAt isL tp a with
    | false => exact And.intro (fun _ => no s2 (by show kw tp wDay a = false; unfold kw; rw [hL]; rfl) S1 O1) (fun q => absurd rfl q)
    | true =>
      refine And.intro (fun q => absurd q (by decide)) (fun _ => And.intro (fun q => ?_) (fun q => ?_))
      · have hpr : prLD tp a = false := pr_ne p3 p7 p9 (by omega) (by omega) q
        have at17 : ∀ (m k : Nat), k + m = wEn tp a → a ≤ k → P 17 [some tM, some (.inr (.inr (some (.inl 260)))), some (iv (nI k)), none] [] s2 := by
          intro m
          have hwl : wEn tp a ≤ tp.length := endE_le isL p5
          have h3 : gI s2 200 3 = nI tp.length := p1.2
          have fin : ∀ k, k = wEn tp a → P 17 [some tM, some (.inr (.inr (some (.inl 260)))), some (iv (nI k)), none] [] s2 := by
            intro k hk
            subst hk
            have aw : a ≤ wEn tp a := endE_ge isL tp a
            have ed : nI (wEn tp a) - gI s2 200 2 = nI (wEn tp a - a) := by rw [p3]; exact nI_s1 _ _ aw
            have hsl := sub_len (tp := tp) (a := a) hwl
            have kwe : kw tp wDay a = decide (sub_ tp a (wEn tp a) = wDay) := by unfold kw; rw [hL, hpr]; rfl
            have at29 : P 29 [some tM, some (.inr (.inr (some (.inl 260)))), some (iv (nI (wEn tp a))), none] [] s2 := by
              refine hP _ _ _ _ (And.intro (fun q => ?_) (fun q => ⟨nar0, ?_, S1, O1⟩))
              · have q0 : nI (wEn tp a) - gI s2 200 2 = nI 3 := q
                rw [ed, nI_eq (by omega) (by omega)] at q0
                have at40 : ∀ (m i : Nat), i + m = 3 → (∀ j, j < i → tp[a + j]? = wDay[j]?) → P 40 [some tM, some (.inr (.inr (some (.inl 260)))), some (iv (nI (wEn tp a))), some (iv (nI i))] [] s2 := by
                  intro m
                  induction m with
                  | zero =>
                    intro i hi hall
                    refine hP _ _ _ _ (And.intro (fun _ => ⟨nar1, ?_, S1, O1⟩) (fun q => absurd (show nI 3 ≤ nI i from nI_le (by omega) (by omega)) q))
                    rw [show kwS tp wDay (.ok a) = true from ?_]
                    · rfl
                    · show kw tp wDay a = true
                      rw [kwe]
                      refine decide_eq_true (List.ext_getElem? (fun j => ?_))
                      by_cases hj : j < 3
                      · rw [sub_get (by omega)]; exact hall j (by omega)
                      · rw [List.getElem?_eq_none (by omega), List.getElem?_eq_none (show wDay.length ≤ j by show 3 ≤ j; omega)]
                  | succ m ih =>
                    intro i hi hall
                    have hil : a + i < tp.length := by omega
                    obtain ⟨c, hc⟩ : ∃ c, tp[a + i]? = some c := ⟨_, List.getElem?_eq_getElem hil⟩
                    obtain ⟨u, hu⟩ : ∃ u, wDay[i]? = some u := ⟨_, List.getElem?_eq_getElem (show i < wDay.length by show i < 3; omega)⟩
                    have hv := p1.1.2 _ c hc
                    have hu2 := hw1.1 i u hu
                    have ei : gI s2 200 2 + nI i = nI (a + i) := by rw [p3, nI_add]
                    have g1 : gI s2 201 (gI s2 200 2 + nI i).toNatClampNeg = nI c := by rw [ei, clN (by omega), hv.1]
                    have g2 : gI s2 260 (nI i).toNatClampNeg = nI u := by rw [clN (by omega), hu2]
                    have hub := hw1.2 u (List.mem_of_getElem? hu)
                    refine hP _ _ _ _ (And.intro (fun q => absurd q (show ¬ nI 3 ≤ nI i from nI_ge (by omega) (by omega))) (fun _ => And.intro (show vp_in (gI s2 200 2 + nI i) 1600 from by rw [ei]; exact vinN (by omega) (by decide)) (And.intro (show vp_in (nI i) 3 from vinN (by omega) (by decide)) (And.intro (fun q => ?_) (fun q => ⟨nar0, ?_, S1, O1⟩)))))
                    · have q1 : gI s2 201 (gI s2 200 2 + nI i).toNatClampNeg = gI s2 260 (nI i).toNatClampNeg := q
                      rw [g1, g2, nI_eq (by omega) (by omega)] at q1
                      show P 40 [some tM, some (.inr (.inr (some (.inl 260)))), some (iv (nI (wEn tp a))), some (iv (nI i + nI 1))] [] s2
                      rw [nI_add]
                      refine ih (i+1) (by omega) (fun j hj => ?_)
                      by_cases ej : j = i
                      · rw [ej, hc, hu, q1]
                      · exact hall j (by omega)
                    · have q1 : ¬ gI s2 201 (gI s2 200 2 + nI i).toNatClampNeg = gI s2 260 (nI i).toNatClampNeg := q
                      rw [g1, g2, nI_eq (by omega) (by omega)] at q1
                      rw [show kwS tp wDay (.ok a) = false from ?_]
                      · rfl
                      · show kw tp wDay a = false
                        rw [kwe]
                        refine decide_eq_false (fun e9 => q1 ?_)
                        have := sub_get (tp := tp) (a := a) (b := wEn tp a) (i := i) (by omega)
                        rw [e9, hc, hu] at this
                        cases this
                        rfl
                exact at40 3 0 (by omega) (fun j hj => absurd hj (Nat.not_lt_zero _))
              · have q0 : ¬ nI (wEn tp a) - gI s2 200 2 = nI 3 := q
                rw [ed, nI_eq (by omega) (by omega)] at q0
                rw [show kwS tp wDay (.ok a) = false from ?_]
                · rfl
                · show kw tp wDay a = false
                  rw [kwe]
                  refine decide_eq_false (fun e9 => q0 ?_)
                  rw [← hsl, e9]
                  rfl
            refine hP _ _ _ _ (And.intro (fun _ => at29) (fun q => ?_))
            have q0 : ¬ gI s2 200 3 ≤ nI (wEn tp a) := q
            rw [h3, nI_leI (by omega) (by omega)] at q0
            obtain ⟨c, hc⟩ : ∃ c, tp[wEn tp a]? = some c := ⟨_, List.getElem?_eq_getElem (by omega)⟩
            have hv := p1.1.2 _ c hc
            refine And.intro (show vp_in (nI (wEn tp a)) 1600 from vinN (by omega) (by decide)) ?_
            refine mcall (c_isLetter G g l d s2 _) (fun r s3 h8 => ?_)
            obtain ⟨rfl, rfl⟩ := h8
            rw [show gI s3 201 (nI (wEn tp a)).toNatClampNeg = byI tp (wEn tp a) by rw [clN (by omega), hv.1]; unfold byI; rw [hc]]
            rw [letB p1.1, show isAt isL tp (wEn tp a) = false from endE_end isL tp a]
            exact And.intro (fun _ => at29) (fun q => absurd rfl q)
          induction m with
          | zero => intro k hk hak; exact fin k (by omega)
          | succ m ih =>
            intro k hk hak
            have hkL : isAt isL tp k = true := endE_in (p := isL) (a := a) hak (by show k < wEn tp a; omega)
            have hkl := isAt_lt hkL
            obtain ⟨c, hc⟩ : ∃ c, tp[k]? = some c := ⟨_, List.getElem?_eq_getElem hkl⟩
            have hv := p1.1.2 _ c hc
            refine hP _ _ _ _ (And.intro (fun q => ?_) (fun _ => And.intro (show vp_in (nI k) 1600 from vinN (by omega) (by decide)) ?_))
            · have q0 : gI s2 200 3 ≤ nI k := q
              rw [h3, nI_leI (by omega) (by omega)] at q0
              omega
            refine mcall (c_isLetter G g l d s2 _) (fun r s3 h8 => ?_)
            obtain ⟨rfl, rfl⟩ := h8
            rw [show gI s3 201 (nI k).toNatClampNeg = byI tp k by rw [clN (by omega), hv.1]; unfold byI; rw [hc]]
            rw [letB p1.1, hkL]
            refine And.intro (fun q => absurd q (by decide)) (fun _ => ?_)
            show P 17 [some tM, some (.inr (.inr (some (.inl 260)))), some (iv (nI k + nI 1)), none] [] s3
            rw [nI_add]
            exact ih (k+1) (by omega) (by omega)
        show P 17 [some tM, some (.inr (.inr (some (.inl 260)))), some (iv (gI s2 200 2)), none] [] s2
        rw [p3]
        exact at17 (wEn tp a - a) a (by have := endE_ge isL tp a; show a + (endE isL tp a - a) = endE isL tp a; omega) (Nat.le_refl _)
      · have hpr : prLD tp a = true := pr_eq p3 p7 p9 (by omega) (by omega) q
        exact no s2 (by show kw tp wDay a = false; unfold kw; rw [hL, hpr]; rfl) S1 O1
theorem c_takes_260 (tp : List Nat) (S : Pos) (h : PX tp S σ) (hw : Wd 260 wDay σ) : MC G g l (d+3) mX6_takes [tM, .inr (.inr (some (.inl 260)))] σ (fun r t => r = some (iv (bI (kwS tp wDay S))) ∧ mS [2, 4] [] σ t ∧ PX tp (takS tp wDay S) t ∧ (kwS tp wDay S = false → PE tp S t)) := by
  refine MC0 tX6_takes rfl okX6_takes rfl rfl rfl rfl (fun P => ?_)
  refine mcall (c_isHere_260 G g l d σ tp S h hw) (fun r s1 h8 => ?_)
  obtain ⟨rfl, S1, E1⟩ := h8
  cases hk : kwS tp wDay S with
  | false => exact And.intro (fun q => absurd rfl q) (fun _ => ⟨nar0, rfl, S1.mono rfl rfl, takS_no hk E1, fun _ => E1⟩)
  | true =>
    refine And.intro (fun _ => ⟨nar1, rfl, ((S1.mono rfl rfl).f rfl).f rfl, ?_, fun q => by cases q⟩) (fun q => absurd q (by decide))
    exact takS_yes (n := 3) hk E1 rfl
theorem c_asks_260 (tp : List Nat) (S : Pos) (h : PX tp S σ) (hw : Wd 260 wDay σ) : MC G g l (d+4) mX6_asks [tM, .inr (.inr (some (.inl 260)))] σ (fun r t => r = none ∧ mS [2, 4, 5, 6] [] σ t ∧ PX tp (match S with
      | .ok a => askW tp wDay a
      | .error f => .error f) t) := by
  refine MC0 tX6_asks rfl okX6_asks rfl rfl rfl rfl (fun P => ?_)
  cases S with
  | error f => exact And.intro (fun _ => ⟨rfl, mS.rf, h⟩) (fun q => absurd q (pf_bad h))
  | ok a =>
    have p2 := h.elim (fun a' h => h.2.1)
    refine And.intro (fun q => absurd p2 q) (fun _ => ?_)
    refine mcall (c_takes_260 G g l d σ tp (.ok a) h hw) (fun r s1 h8 => ?_)
    obtain ⟨rfl, S1, X1, E1⟩ := h8
    cases hk : kwS tp wDay (.ok a) with
    | true =>
      refine And.intro (fun _ => ⟨rfl, S1.mono rfl rfl, ?_⟩) (fun q => absurd q (by decide))
      have hk0 : kw tp wDay a = true := hk
      show PX tp (askW tp wDay a) s1
      unfold askW
      rw [if_pos hk0]
      have : takS tp wDay (.ok a) = .ok (skp tp (a + wDay.length)) := if_pos hk0
      rw [this] at X1
      exact X1
    | false =>
      have hk0 : kw tp wDay a = false := hk
      have E2 : PO tp a a s1 := E1 hk
      refine And.intro (fun q => absurd rfl q) (fun _ => ?_)
      have hl := E2.1.len
      have ha := E2.2.2.2.2.1
      refine mcall (c_fail G g l (d+2) s1 tp (.ok a) ⟨a, E2⟩ _ _ 1 a rfl E2.2.2.1 (by omega) (by omega) (by omega)) (fun r s2 h8 => ?_)
      obtain ⟨rfl, S2, X2⟩ := h8
      refine ⟨rfl, (S1.mono rfl rfl).tr (S2.mono rfl rfl), ?_⟩
      show PX tp (askW tp wDay a) s2
      unfold askW
      rw [if_neg (by rw [hk0]; decide)]
      exact X2
set_option maxHeartbeats 1000000 in
theorem c_isHere_261 (tp : List Nat) (S : Pos) (h : PX tp S σ) (hw : Wd 261 wWidth σ) : MC G g l (d+2) mX6_isHere [tM, .inr (.inr (some (.inl 261)))] σ (fun r t => r = some (iv (bI (kwS tp wWidth S))) ∧ mS [2] [] σ t ∧ PE tp S t) := by
  refine MC1 tX6_isHere [12, 17, 29, 40] rfl okX6_isHere rfl rfl rfl rfl (fun P hP => ?_)
  have no : ∀ τ, kwS tp wWidth S = false → mS [2] [] σ τ → PE tp S τ → P 12 [some tM, some (.inr (.inr (some (.inl 261)))), none, none] [] τ := fun τ e hS hE => hP _ _ _ _ ⟨nar0, by rw [e]; rfl, hS, hE⟩
  refine hP _ _ _ _ ?_
  cases S with
  | error f =>
    refine And.intro (fun _ => no σ rfl mS.rf h) (fun q => absurd q (pf_bad h))
  | ok a =>
    obtain ⟨a', h9⟩ := h
    refine And.intro (fun q => absurd h9.2.1 q) (fun _ => ?_)
    refine mcall (c_look G g l d σ tp a a' h9) (fun r s1 h8 => ?_)
    obtain ⟨rfl, S1, O1⟩ := h8
    have hw1 : Wd 261 wWidth s1 := hw.keep S1 rfl rfl
    obtain ⟨p1, p2, p3, p4, p5, p6, e, p7, p8, p9, p10⟩ := O1
    have O1 : PO tp a a s1 := ⟨p1, p2, p3, p4, p5, p6, e, p7, p8, p9, p10⟩
    have hl := p1.len
    refine mcall (c_isLetter G g l d s1 (byI tp a)) (fun r s2 h8 => ?_)
    obtain ⟨rfl, rfl⟩ := h8
    rw [letB p1.1 a]
    cases hL : isAt isL tp a with
    | false => exact And.intro (fun _ => no s2 (by show kw tp wWidth a = false; unfold kw; rw [hL]; rfl) S1 O1) (fun q => absurd rfl q)
    | true =>
      refine And.intro (fun q => absurd q (by decide)) (fun _ => And.intro (fun q => ?_) (fun q => ?_))
      · have hpr : prLD tp a = false := pr_ne p3 p7 p9 (by omega) (by omega) q
        have at17 : ∀ (m k : Nat), k + m = wEn tp a → a ≤ k → P 17 [some tM, some (.inr (.inr (some (.inl 261)))), some (iv (nI k)), none] [] s2 := by
          intro m
          have hwl : wEn tp a ≤ tp.length := endE_le isL p5
          have h3 : gI s2 200 3 = nI tp.length := p1.2
          have fin : ∀ k, k = wEn tp a → P 17 [some tM, some (.inr (.inr (some (.inl 261)))), some (iv (nI k)), none] [] s2 := by
            intro k hk
            subst hk
            have aw : a ≤ wEn tp a := endE_ge isL tp a
            have ed : nI (wEn tp a) - gI s2 200 2 = nI (wEn tp a - a) := by rw [p3]; exact nI_s1 _ _ aw
            have hsl := sub_len (tp := tp) (a := a) hwl
            have kwe : kw tp wWidth a = decide (sub_ tp a (wEn tp a) = wWidth) := by unfold kw; rw [hL, hpr]; rfl
            have at29 : P 29 [some tM, some (.inr (.inr (some (.inl 261)))), some (iv (nI (wEn tp a))), none] [] s2 := by
              refine hP _ _ _ _ (And.intro (fun q => ?_) (fun q => ⟨nar0, ?_, S1, O1⟩))
              · have q0 : nI (wEn tp a) - gI s2 200 2 = nI 5 := q
                rw [ed, nI_eq (by omega) (by omega)] at q0
                have at40 : ∀ (m i : Nat), i + m = 5 → (∀ j, j < i → tp[a + j]? = wWidth[j]?) → P 40 [some tM, some (.inr (.inr (some (.inl 261)))), some (iv (nI (wEn tp a))), some (iv (nI i))] [] s2 := by
                  intro m
                  induction m with
                  | zero =>
                    intro i hi hall
                    refine hP _ _ _ _ (And.intro (fun _ => ⟨nar1, ?_, S1, O1⟩) (fun q => absurd (show nI 5 ≤ nI i from nI_le (by omega) (by omega)) q))
                    rw [show kwS tp wWidth (.ok a) = true from ?_]
                    · rfl
                    · show kw tp wWidth a = true
                      rw [kwe]
                      refine decide_eq_true (List.ext_getElem? (fun j => ?_))
                      by_cases hj : j < 5
                      · rw [sub_get (by omega)]; exact hall j (by omega)
                      · rw [List.getElem?_eq_none (by omega), List.getElem?_eq_none (show wWidth.length ≤ j by show 5 ≤ j; omega)]
                  | succ m ih =>
                    intro i hi hall
                    have hil : a + i < tp.length := by omega
                    obtain ⟨c, hc⟩ : ∃ c, tp[a + i]? = some c := ⟨_, List.getElem?_eq_getElem hil⟩
                    obtain ⟨u, hu⟩ : ∃ u, wWidth[i]? = some u := ⟨_, List.getElem?_eq_getElem (show i < wWidth.length by show i < 5; omega)⟩
                    have hv := p1.1.2 _ c hc
                    have hu2 := hw1.1 i u hu
                    have ei : gI s2 200 2 + nI i = nI (a + i) := by rw [p3, nI_add]
                    have g1 : gI s2 201 (gI s2 200 2 + nI i).toNatClampNeg = nI c := by rw [ei, clN (by omega), hv.1]
                    have g2 : gI s2 261 (nI i).toNatClampNeg = nI u := by rw [clN (by omega), hu2]
                    have hub := hw1.2 u (List.mem_of_getElem? hu)
                    refine hP _ _ _ _ (And.intro (fun q => absurd q (show ¬ nI 5 ≤ nI i from nI_ge (by omega) (by omega))) (fun _ => And.intro (show vp_in (gI s2 200 2 + nI i) 1600 from by rw [ei]; exact vinN (by omega) (by decide)) (And.intro (show vp_in (nI i) 5 from vinN (by omega) (by decide)) (And.intro (fun q => ?_) (fun q => ⟨nar0, ?_, S1, O1⟩)))))
                    · have q1 : gI s2 201 (gI s2 200 2 + nI i).toNatClampNeg = gI s2 261 (nI i).toNatClampNeg := q
                      rw [g1, g2, nI_eq (by omega) (by omega)] at q1
                      show P 40 [some tM, some (.inr (.inr (some (.inl 261)))), some (iv (nI (wEn tp a))), some (iv (nI i + nI 1))] [] s2
                      rw [nI_add]
                      refine ih (i+1) (by omega) (fun j hj => ?_)
                      by_cases ej : j = i
                      · rw [ej, hc, hu, q1]
                      · exact hall j (by omega)
                    · have q1 : ¬ gI s2 201 (gI s2 200 2 + nI i).toNatClampNeg = gI s2 261 (nI i).toNatClampNeg := q
                      rw [g1, g2, nI_eq (by omega) (by omega)] at q1
                      rw [show kwS tp wWidth (.ok a) = false from ?_]
                      · rfl
                      · show kw tp wWidth a = false
                        rw [kwe]
                        refine decide_eq_false (fun e9 => q1 ?_)
                        have := sub_get (tp := tp) (a := a) (b := wEn tp a) (i := i) (by omega)
                        rw [e9, hc, hu] at this
                        cases this
                        rfl
                exact at40 5 0 (by omega) (fun j hj => absurd hj (Nat.not_lt_zero _))
              · have q0 : ¬ nI (wEn tp a) - gI s2 200 2 = nI 5 := q
                rw [ed, nI_eq (by omega) (by omega)] at q0
                rw [show kwS tp wWidth (.ok a) = false from ?_]
                · rfl
                · show kw tp wWidth a = false
                  rw [kwe]
                  refine decide_eq_false (fun e9 => q0 ?_)
                  rw [← hsl, e9]
                  rfl
            refine hP _ _ _ _ (And.intro (fun _ => at29) (fun q => ?_))
            have q0 : ¬ gI s2 200 3 ≤ nI (wEn tp a) := q
            rw [h3, nI_leI (by omega) (by omega)] at q0
            obtain ⟨c, hc⟩ : ∃ c, tp[wEn tp a]? = some c := ⟨_, List.getElem?_eq_getElem (by omega)⟩
            have hv := p1.1.2 _ c hc
            refine And.intro (show vp_in (nI (wEn tp a)) 1600 from vinN (by omega) (by decide)) ?_
            refine mcall (c_isLetter G g l d s2 _) (fun r s3 h8 => ?_)
            obtain ⟨rfl, rfl⟩ := h8
            rw [show gI s3 201 (nI (wEn tp a)).toNatClampNeg = byI tp (wEn tp a) by rw [clN (by omega), hv.1]; unfold byI; rw [hc]]
            rw [letB p1.1, show isAt isL tp (wEn tp a) = false from endE_end isL tp a]
            exact And.intro (fun _ => at29) (fun q => absurd rfl q)
          induction m with
          | zero => intro k hk hak; exact fin k (by omega)
          | succ m ih =>
            intro k hk hak
            have hkL : isAt isL tp k = true := endE_in (p := isL) (a := a) hak (by show k < wEn tp a; omega)
            have hkl := isAt_lt hkL
            obtain ⟨c, hc⟩ : ∃ c, tp[k]? = some c := ⟨_, List.getElem?_eq_getElem hkl⟩
            have hv := p1.1.2 _ c hc
            refine hP _ _ _ _ (And.intro (fun q => ?_) (fun _ => And.intro (show vp_in (nI k) 1600 from vinN (by omega) (by decide)) ?_))
            · have q0 : gI s2 200 3 ≤ nI k := q
              rw [h3, nI_leI (by omega) (by omega)] at q0
              omega
            refine mcall (c_isLetter G g l d s2 _) (fun r s3 h8 => ?_)
            obtain ⟨rfl, rfl⟩ := h8
            rw [show gI s3 201 (nI k).toNatClampNeg = byI tp k by rw [clN (by omega), hv.1]; unfold byI; rw [hc]]
            rw [letB p1.1, hkL]
            refine And.intro (fun q => absurd q (by decide)) (fun _ => ?_)
            show P 17 [some tM, some (.inr (.inr (some (.inl 261)))), some (iv (nI k + nI 1)), none] [] s3
            rw [nI_add]
            exact ih (k+1) (by omega) (by omega)
        show P 17 [some tM, some (.inr (.inr (some (.inl 261)))), some (iv (gI s2 200 2)), none] [] s2
        rw [p3]
        exact at17 (wEn tp a - a) a (by have := endE_ge isL tp a; show a + (endE isL tp a - a) = endE isL tp a; omega) (Nat.le_refl _)
      · have hpr : prLD tp a = true := pr_eq p3 p7 p9 (by omega) (by omega) q
        exact no s2 (by show kw tp wWidth a = false; unfold kw; rw [hL, hpr]; rfl) S1 O1
theorem c_takes_261 (tp : List Nat) (S : Pos) (h : PX tp S σ) (hw : Wd 261 wWidth σ) : MC G g l (d+3) mX6_takes [tM, .inr (.inr (some (.inl 261)))] σ (fun r t => r = some (iv (bI (kwS tp wWidth S))) ∧ mS [2, 4] [] σ t ∧ PX tp (takS tp wWidth S) t ∧ (kwS tp wWidth S = false → PE tp S t)) := by
  refine MC0 tX6_takes rfl okX6_takes rfl rfl rfl rfl (fun P => ?_)
  refine mcall (c_isHere_261 G g l d σ tp S h hw) (fun r s1 h8 => ?_)
  obtain ⟨rfl, S1, E1⟩ := h8
  cases hk : kwS tp wWidth S with
  | false => exact And.intro (fun q => absurd rfl q) (fun _ => ⟨nar0, rfl, S1.mono rfl rfl, takS_no hk E1, fun _ => E1⟩)
  | true =>
    refine And.intro (fun _ => ⟨nar1, rfl, ((S1.mono rfl rfl).f rfl).f rfl, ?_, fun q => by cases q⟩) (fun q => absurd q (by decide))
    exact takS_yes (n := 5) hk E1 rfl
theorem c_asks_261 (tp : List Nat) (S : Pos) (h : PX tp S σ) (hw : Wd 261 wWidth σ) : MC G g l (d+4) mX6_asks [tM, .inr (.inr (some (.inl 261)))] σ (fun r t => r = none ∧ mS [2, 4, 5, 6] [] σ t ∧ PX tp (match S with
      | .ok a => askW tp wWidth a
      | .error f => .error f) t) := by
  refine MC0 tX6_asks rfl okX6_asks rfl rfl rfl rfl (fun P => ?_)
  cases S with
  | error f => exact And.intro (fun _ => ⟨rfl, mS.rf, h⟩) (fun q => absurd q (pf_bad h))
  | ok a =>
    have p2 := h.elim (fun a' h => h.2.1)
    refine And.intro (fun q => absurd p2 q) (fun _ => ?_)
    refine mcall (c_takes_261 G g l d σ tp (.ok a) h hw) (fun r s1 h8 => ?_)
    obtain ⟨rfl, S1, X1, E1⟩ := h8
    cases hk : kwS tp wWidth (.ok a) with
    | true =>
      refine And.intro (fun _ => ⟨rfl, S1.mono rfl rfl, ?_⟩) (fun q => absurd q (by decide))
      have hk0 : kw tp wWidth a = true := hk
      show PX tp (askW tp wWidth a) s1
      unfold askW
      rw [if_pos hk0]
      have : takS tp wWidth (.ok a) = .ok (skp tp (a + wWidth.length)) := if_pos hk0
      rw [this] at X1
      exact X1
    | false =>
      have hk0 : kw tp wWidth a = false := hk
      have E2 : PO tp a a s1 := E1 hk
      refine And.intro (fun q => absurd rfl q) (fun _ => ?_)
      have hl := E2.1.len
      have ha := E2.2.2.2.2.1
      refine mcall (c_fail G g l (d+2) s1 tp (.ok a) ⟨a, E2⟩ _ _ 1 a rfl E2.2.2.1 (by omega) (by omega) (by omega)) (fun r s2 h8 => ?_)
      obtain ⟨rfl, S2, X2⟩ := h8
      refine ⟨rfl, (S1.mono rfl rfl).tr (S2.mono rfl rfl), ?_⟩
      show PX tp (askW tp wWidth a) s2
      unfold askW
      rw [if_neg (by rw [hk0]; decide)]
      exact X2
set_option maxHeartbeats 1000000 in
theorem c_isHere_262 (tp : List Nat) (S : Pos) (h : PX tp S σ) (hw : Wd 262 wTide σ) : MC G g l (d+2) mX6_isHere [tM, .inr (.inr (some (.inl 262)))] σ (fun r t => r = some (iv (bI (kwS tp wTide S))) ∧ mS [2] [] σ t ∧ PE tp S t) := by
  refine MC1 tX6_isHere [12, 17, 29, 40] rfl okX6_isHere rfl rfl rfl rfl (fun P hP => ?_)
  have no : ∀ τ, kwS tp wTide S = false → mS [2] [] σ τ → PE tp S τ → P 12 [some tM, some (.inr (.inr (some (.inl 262)))), none, none] [] τ := fun τ e hS hE => hP _ _ _ _ ⟨nar0, by rw [e]; rfl, hS, hE⟩
  refine hP _ _ _ _ ?_
  cases S with
  | error f =>
    refine And.intro (fun _ => no σ rfl mS.rf h) (fun q => absurd q (pf_bad h))
  | ok a =>
    obtain ⟨a', h9⟩ := h
    refine And.intro (fun q => absurd h9.2.1 q) (fun _ => ?_)
    refine mcall (c_look G g l d σ tp a a' h9) (fun r s1 h8 => ?_)
    obtain ⟨rfl, S1, O1⟩ := h8
    have hw1 : Wd 262 wTide s1 := hw.keep S1 rfl rfl
    obtain ⟨p1, p2, p3, p4, p5, p6, e, p7, p8, p9, p10⟩ := O1
    have O1 : PO tp a a s1 := ⟨p1, p2, p3, p4, p5, p6, e, p7, p8, p9, p10⟩
    have hl := p1.len
    refine mcall (c_isLetter G g l d s1 (byI tp a)) (fun r s2 h8 => ?_)
    obtain ⟨rfl, rfl⟩ := h8
    rw [letB p1.1 a]
    cases hL : isAt isL tp a with
    | false => exact And.intro (fun _ => no s2 (by show kw tp wTide a = false; unfold kw; rw [hL]; rfl) S1 O1) (fun q => absurd rfl q)
    | true =>
      refine And.intro (fun q => absurd q (by decide)) (fun _ => And.intro (fun q => ?_) (fun q => ?_))
      · have hpr : prLD tp a = false := pr_ne p3 p7 p9 (by omega) (by omega) q
        have at17 : ∀ (m k : Nat), k + m = wEn tp a → a ≤ k → P 17 [some tM, some (.inr (.inr (some (.inl 262)))), some (iv (nI k)), none] [] s2 := by
          intro m
          have hwl : wEn tp a ≤ tp.length := endE_le isL p5
          have h3 : gI s2 200 3 = nI tp.length := p1.2
          have fin : ∀ k, k = wEn tp a → P 17 [some tM, some (.inr (.inr (some (.inl 262)))), some (iv (nI k)), none] [] s2 := by
            intro k hk
            subst hk
            have aw : a ≤ wEn tp a := endE_ge isL tp a
            have ed : nI (wEn tp a) - gI s2 200 2 = nI (wEn tp a - a) := by rw [p3]; exact nI_s1 _ _ aw
            have hsl := sub_len (tp := tp) (a := a) hwl
            have kwe : kw tp wTide a = decide (sub_ tp a (wEn tp a) = wTide) := by unfold kw; rw [hL, hpr]; rfl
            have at29 : P 29 [some tM, some (.inr (.inr (some (.inl 262)))), some (iv (nI (wEn tp a))), none] [] s2 := by
              refine hP _ _ _ _ (And.intro (fun q => ?_) (fun q => ⟨nar0, ?_, S1, O1⟩))
              · have q0 : nI (wEn tp a) - gI s2 200 2 = nI 4 := q
                rw [ed, nI_eq (by omega) (by omega)] at q0
                have at40 : ∀ (m i : Nat), i + m = 4 → (∀ j, j < i → tp[a + j]? = wTide[j]?) → P 40 [some tM, some (.inr (.inr (some (.inl 262)))), some (iv (nI (wEn tp a))), some (iv (nI i))] [] s2 := by
                  intro m
                  induction m with
                  | zero =>
                    intro i hi hall
                    refine hP _ _ _ _ (And.intro (fun _ => ⟨nar1, ?_, S1, O1⟩) (fun q => absurd (show nI 4 ≤ nI i from nI_le (by omega) (by omega)) q))
                    rw [show kwS tp wTide (.ok a) = true from ?_]
                    · rfl
                    · show kw tp wTide a = true
                      rw [kwe]
                      refine decide_eq_true (List.ext_getElem? (fun j => ?_))
                      by_cases hj : j < 4
                      · rw [sub_get (by omega)]; exact hall j (by omega)
                      · rw [List.getElem?_eq_none (by omega), List.getElem?_eq_none (show wTide.length ≤ j by show 4 ≤ j; omega)]
                  | succ m ih =>
                    intro i hi hall
                    have hil : a + i < tp.length := by omega
                    obtain ⟨c, hc⟩ : ∃ c, tp[a + i]? = some c := ⟨_, List.getElem?_eq_getElem hil⟩
                    obtain ⟨u, hu⟩ : ∃ u, wTide[i]? = some u := ⟨_, List.getElem?_eq_getElem (show i < wTide.length by show i < 4; omega)⟩
                    have hv := p1.1.2 _ c hc
                    have hu2 := hw1.1 i u hu
                    have ei : gI s2 200 2 + nI i = nI (a + i) := by rw [p3, nI_add]
                    have g1 : gI s2 201 (gI s2 200 2 + nI i).toNatClampNeg = nI c := by rw [ei, clN (by omega), hv.1]
                    have g2 : gI s2 262 (nI i).toNatClampNeg = nI u := by rw [clN (by omega), hu2]
                    have hub := hw1.2 u (List.mem_of_getElem? hu)
                    refine hP _ _ _ _ (And.intro (fun q => absurd q (show ¬ nI 4 ≤ nI i from nI_ge (by omega) (by omega))) (fun _ => And.intro (show vp_in (gI s2 200 2 + nI i) 1600 from by rw [ei]; exact vinN (by omega) (by decide)) (And.intro (show vp_in (nI i) 4 from vinN (by omega) (by decide)) (And.intro (fun q => ?_) (fun q => ⟨nar0, ?_, S1, O1⟩)))))
                    · have q1 : gI s2 201 (gI s2 200 2 + nI i).toNatClampNeg = gI s2 262 (nI i).toNatClampNeg := q
                      rw [g1, g2, nI_eq (by omega) (by omega)] at q1
                      show P 40 [some tM, some (.inr (.inr (some (.inl 262)))), some (iv (nI (wEn tp a))), some (iv (nI i + nI 1))] [] s2
                      rw [nI_add]
                      refine ih (i+1) (by omega) (fun j hj => ?_)
                      by_cases ej : j = i
                      · rw [ej, hc, hu, q1]
                      · exact hall j (by omega)
                    · have q1 : ¬ gI s2 201 (gI s2 200 2 + nI i).toNatClampNeg = gI s2 262 (nI i).toNatClampNeg := q
                      rw [g1, g2, nI_eq (by omega) (by omega)] at q1
                      rw [show kwS tp wTide (.ok a) = false from ?_]
                      · rfl
                      · show kw tp wTide a = false
                        rw [kwe]
                        refine decide_eq_false (fun e9 => q1 ?_)
                        have := sub_get (tp := tp) (a := a) (b := wEn tp a) (i := i) (by omega)
                        rw [e9, hc, hu] at this
                        cases this
                        rfl
                exact at40 4 0 (by omega) (fun j hj => absurd hj (Nat.not_lt_zero _))
              · have q0 : ¬ nI (wEn tp a) - gI s2 200 2 = nI 4 := q
                rw [ed, nI_eq (by omega) (by omega)] at q0
                rw [show kwS tp wTide (.ok a) = false from ?_]
                · rfl
                · show kw tp wTide a = false
                  rw [kwe]
                  refine decide_eq_false (fun e9 => q0 ?_)
                  rw [← hsl, e9]
                  rfl
            refine hP _ _ _ _ (And.intro (fun _ => at29) (fun q => ?_))
            have q0 : ¬ gI s2 200 3 ≤ nI (wEn tp a) := q
            rw [h3, nI_leI (by omega) (by omega)] at q0
            obtain ⟨c, hc⟩ : ∃ c, tp[wEn tp a]? = some c := ⟨_, List.getElem?_eq_getElem (by omega)⟩
            have hv := p1.1.2 _ c hc
            refine And.intro (show vp_in (nI (wEn tp a)) 1600 from vinN (by omega) (by decide)) ?_
            refine mcall (c_isLetter G g l d s2 _) (fun r s3 h8 => ?_)
            obtain ⟨rfl, rfl⟩ := h8
            rw [show gI s3 201 (nI (wEn tp a)).toNatClampNeg = byI tp (wEn tp a) by rw [clN (by omega), hv.1]; unfold byI; rw [hc]]
            rw [letB p1.1, show isAt isL tp (wEn tp a) = false from endE_end isL tp a]
            exact And.intro (fun _ => at29) (fun q => absurd rfl q)
          induction m with
          | zero => intro k hk hak; exact fin k (by omega)
          | succ m ih =>
            intro k hk hak
            have hkL : isAt isL tp k = true := endE_in (p := isL) (a := a) hak (by show k < wEn tp a; omega)
            have hkl := isAt_lt hkL
            obtain ⟨c, hc⟩ : ∃ c, tp[k]? = some c := ⟨_, List.getElem?_eq_getElem hkl⟩
            have hv := p1.1.2 _ c hc
            refine hP _ _ _ _ (And.intro (fun q => ?_) (fun _ => And.intro (show vp_in (nI k) 1600 from vinN (by omega) (by decide)) ?_))
            · have q0 : gI s2 200 3 ≤ nI k := q
              rw [h3, nI_leI (by omega) (by omega)] at q0
              omega
            refine mcall (c_isLetter G g l d s2 _) (fun r s3 h8 => ?_)
            obtain ⟨rfl, rfl⟩ := h8
            rw [show gI s3 201 (nI k).toNatClampNeg = byI tp k by rw [clN (by omega), hv.1]; unfold byI; rw [hc]]
            rw [letB p1.1, hkL]
            refine And.intro (fun q => absurd q (by decide)) (fun _ => ?_)
            show P 17 [some tM, some (.inr (.inr (some (.inl 262)))), some (iv (nI k + nI 1)), none] [] s3
            rw [nI_add]
            exact ih (k+1) (by omega) (by omega)
        show P 17 [some tM, some (.inr (.inr (some (.inl 262)))), some (iv (gI s2 200 2)), none] [] s2
        rw [p3]
        exact at17 (wEn tp a - a) a (by have := endE_ge isL tp a; show a + (endE isL tp a - a) = endE isL tp a; omega) (Nat.le_refl _)
      · have hpr : prLD tp a = true := pr_eq p3 p7 p9 (by omega) (by omega) q
        exact no s2 (by show kw tp wTide a = false; unfold kw; rw [hL, hpr]; rfl) S1 O1
theorem c_takes_262 (tp : List Nat) (S : Pos) (h : PX tp S σ) (hw : Wd 262 wTide σ) : MC G g l (d+3) mX6_takes [tM, .inr (.inr (some (.inl 262)))] σ (fun r t => r = some (iv (bI (kwS tp wTide S))) ∧ mS [2, 4] [] σ t ∧ PX tp (takS tp wTide S) t ∧ (kwS tp wTide S = false → PE tp S t)) := by
  refine MC0 tX6_takes rfl okX6_takes rfl rfl rfl rfl (fun P => ?_)
  refine mcall (c_isHere_262 G g l d σ tp S h hw) (fun r s1 h8 => ?_)
  obtain ⟨rfl, S1, E1⟩ := h8
  cases hk : kwS tp wTide S with
  | false => exact And.intro (fun q => absurd rfl q) (fun _ => ⟨nar0, rfl, S1.mono rfl rfl, takS_no hk E1, fun _ => E1⟩)
  | true =>
    refine And.intro (fun _ => ⟨nar1, rfl, ((S1.mono rfl rfl).f rfl).f rfl, ?_, fun q => by cases q⟩) (fun q => absurd q (by decide))
    exact takS_yes (n := 4) hk E1 rfl
theorem c_asks_262 (tp : List Nat) (S : Pos) (h : PX tp S σ) (hw : Wd 262 wTide σ) : MC G g l (d+4) mX6_asks [tM, .inr (.inr (some (.inl 262)))] σ (fun r t => r = none ∧ mS [2, 4, 5, 6] [] σ t ∧ PX tp (match S with
      | .ok a => askW tp wTide a
      | .error f => .error f) t) := by
  refine MC0 tX6_asks rfl okX6_asks rfl rfl rfl rfl (fun P => ?_)
  cases S with
  | error f => exact And.intro (fun _ => ⟨rfl, mS.rf, h⟩) (fun q => absurd q (pf_bad h))
  | ok a =>
    have p2 := h.elim (fun a' h => h.2.1)
    refine And.intro (fun q => absurd p2 q) (fun _ => ?_)
    refine mcall (c_takes_262 G g l d σ tp (.ok a) h hw) (fun r s1 h8 => ?_)
    obtain ⟨rfl, S1, X1, E1⟩ := h8
    cases hk : kwS tp wTide (.ok a) with
    | true =>
      refine And.intro (fun _ => ⟨rfl, S1.mono rfl rfl, ?_⟩) (fun q => absurd q (by decide))
      have hk0 : kw tp wTide a = true := hk
      show PX tp (askW tp wTide a) s1
      unfold askW
      rw [if_pos hk0]
      have : takS tp wTide (.ok a) = .ok (skp tp (a + wTide.length)) := if_pos hk0
      rw [this] at X1
      exact X1
    | false =>
      have hk0 : kw tp wTide a = false := hk
      have E2 : PO tp a a s1 := E1 hk
      refine And.intro (fun q => absurd rfl q) (fun _ => ?_)
      have hl := E2.1.len
      have ha := E2.2.2.2.2.1
      refine mcall (c_fail G g l (d+2) s1 tp (.ok a) ⟨a, E2⟩ _ _ 1 a rfl E2.2.2.1 (by omega) (by omega) (by omega)) (fun r s2 h8 => ?_)
      obtain ⟨rfl, S2, X2⟩ := h8
      refine ⟨rfl, (S1.mono rfl rfl).tr (S2.mono rfl rfl), ?_⟩
      show PX tp (askW tp wTide a) s2
      unfold askW
      rw [if_neg (by rw [hk0]; decide)]
      exact X2
set_option maxHeartbeats 1000000 in
theorem c_isHere_263 (tp : List Nat) (S : Pos) (h : PX tp S σ) (hw : Wd 263 wPasses σ) : MC G g l (d+2) mX6_isHere [tM, .inr (.inr (some (.inl 263)))] σ (fun r t => r = some (iv (bI (kwS tp wPasses S))) ∧ mS [2] [] σ t ∧ PE tp S t) := by
  refine MC1 tX6_isHere [12, 17, 29, 40] rfl okX6_isHere rfl rfl rfl rfl (fun P hP => ?_)
  have no : ∀ τ, kwS tp wPasses S = false → mS [2] [] σ τ → PE tp S τ → P 12 [some tM, some (.inr (.inr (some (.inl 263)))), none, none] [] τ := fun τ e hS hE => hP _ _ _ _ ⟨nar0, by rw [e]; rfl, hS, hE⟩
  refine hP _ _ _ _ ?_
  cases S with
  | error f =>
    refine And.intro (fun _ => no σ rfl mS.rf h) (fun q => absurd q (pf_bad h))
  | ok a =>
    obtain ⟨a', h9⟩ := h
    refine And.intro (fun q => absurd h9.2.1 q) (fun _ => ?_)
    refine mcall (c_look G g l d σ tp a a' h9) (fun r s1 h8 => ?_)
    obtain ⟨rfl, S1, O1⟩ := h8
    have hw1 : Wd 263 wPasses s1 := hw.keep S1 rfl rfl
    obtain ⟨p1, p2, p3, p4, p5, p6, e, p7, p8, p9, p10⟩ := O1
    have O1 : PO tp a a s1 := ⟨p1, p2, p3, p4, p5, p6, e, p7, p8, p9, p10⟩
    have hl := p1.len
    refine mcall (c_isLetter G g l d s1 (byI tp a)) (fun r s2 h8 => ?_)
    obtain ⟨rfl, rfl⟩ := h8
    rw [letB p1.1 a]
    cases hL : isAt isL tp a with
    | false => exact And.intro (fun _ => no s2 (by show kw tp wPasses a = false; unfold kw; rw [hL]; rfl) S1 O1) (fun q => absurd rfl q)
    | true =>
      refine And.intro (fun q => absurd q (by decide)) (fun _ => And.intro (fun q => ?_) (fun q => ?_))
      · have hpr : prLD tp a = false := pr_ne p3 p7 p9 (by omega) (by omega) q
        have at17 : ∀ (m k : Nat), k + m = wEn tp a → a ≤ k → P 17 [some tM, some (.inr (.inr (some (.inl 263)))), some (iv (nI k)), none] [] s2 := by
          intro m
          have hwl : wEn tp a ≤ tp.length := endE_le isL p5
          have h3 : gI s2 200 3 = nI tp.length := p1.2
          have fin : ∀ k, k = wEn tp a → P 17 [some tM, some (.inr (.inr (some (.inl 263)))), some (iv (nI k)), none] [] s2 := by
            intro k hk
            subst hk
            have aw : a ≤ wEn tp a := endE_ge isL tp a
            have ed : nI (wEn tp a) - gI s2 200 2 = nI (wEn tp a - a) := by rw [p3]; exact nI_s1 _ _ aw
            have hsl := sub_len (tp := tp) (a := a) hwl
            have kwe : kw tp wPasses a = decide (sub_ tp a (wEn tp a) = wPasses) := by unfold kw; rw [hL, hpr]; rfl
            have at29 : P 29 [some tM, some (.inr (.inr (some (.inl 263)))), some (iv (nI (wEn tp a))), none] [] s2 := by
              refine hP _ _ _ _ (And.intro (fun q => ?_) (fun q => ⟨nar0, ?_, S1, O1⟩))
              · have q0 : nI (wEn tp a) - gI s2 200 2 = nI 6 := q
                rw [ed, nI_eq (by omega) (by omega)] at q0
                have at40 : ∀ (m i : Nat), i + m = 6 → (∀ j, j < i → tp[a + j]? = wPasses[j]?) → P 40 [some tM, some (.inr (.inr (some (.inl 263)))), some (iv (nI (wEn tp a))), some (iv (nI i))] [] s2 := by
                  intro m
                  induction m with
                  | zero =>
                    intro i hi hall
                    refine hP _ _ _ _ (And.intro (fun _ => ⟨nar1, ?_, S1, O1⟩) (fun q => absurd (show nI 6 ≤ nI i from nI_le (by omega) (by omega)) q))
                    rw [show kwS tp wPasses (.ok a) = true from ?_]
                    · rfl
                    · show kw tp wPasses a = true
                      rw [kwe]
                      refine decide_eq_true (List.ext_getElem? (fun j => ?_))
                      by_cases hj : j < 6
                      · rw [sub_get (by omega)]; exact hall j (by omega)
                      · rw [List.getElem?_eq_none (by omega), List.getElem?_eq_none (show wPasses.length ≤ j by show 6 ≤ j; omega)]
                  | succ m ih =>
                    intro i hi hall
                    have hil : a + i < tp.length := by omega
                    obtain ⟨c, hc⟩ : ∃ c, tp[a + i]? = some c := ⟨_, List.getElem?_eq_getElem hil⟩
                    obtain ⟨u, hu⟩ : ∃ u, wPasses[i]? = some u := ⟨_, List.getElem?_eq_getElem (show i < wPasses.length by show i < 6; omega)⟩
                    have hv := p1.1.2 _ c hc
                    have hu2 := hw1.1 i u hu
                    have ei : gI s2 200 2 + nI i = nI (a + i) := by rw [p3, nI_add]
                    have g1 : gI s2 201 (gI s2 200 2 + nI i).toNatClampNeg = nI c := by rw [ei, clN (by omega), hv.1]
                    have g2 : gI s2 263 (nI i).toNatClampNeg = nI u := by rw [clN (by omega), hu2]
                    have hub := hw1.2 u (List.mem_of_getElem? hu)
                    refine hP _ _ _ _ (And.intro (fun q => absurd q (show ¬ nI 6 ≤ nI i from nI_ge (by omega) (by omega))) (fun _ => And.intro (show vp_in (gI s2 200 2 + nI i) 1600 from by rw [ei]; exact vinN (by omega) (by decide)) (And.intro (show vp_in (nI i) 6 from vinN (by omega) (by decide)) (And.intro (fun q => ?_) (fun q => ⟨nar0, ?_, S1, O1⟩)))))
                    · have q1 : gI s2 201 (gI s2 200 2 + nI i).toNatClampNeg = gI s2 263 (nI i).toNatClampNeg := q
                      rw [g1, g2, nI_eq (by omega) (by omega)] at q1
                      show P 40 [some tM, some (.inr (.inr (some (.inl 263)))), some (iv (nI (wEn tp a))), some (iv (nI i + nI 1))] [] s2
                      rw [nI_add]
                      refine ih (i+1) (by omega) (fun j hj => ?_)
                      by_cases ej : j = i
                      · rw [ej, hc, hu, q1]
                      · exact hall j (by omega)
                    · have q1 : ¬ gI s2 201 (gI s2 200 2 + nI i).toNatClampNeg = gI s2 263 (nI i).toNatClampNeg := q
                      rw [g1, g2, nI_eq (by omega) (by omega)] at q1
                      rw [show kwS tp wPasses (.ok a) = false from ?_]
                      · rfl
                      · show kw tp wPasses a = false
                        rw [kwe]
                        refine decide_eq_false (fun e9 => q1 ?_)
                        have := sub_get (tp := tp) (a := a) (b := wEn tp a) (i := i) (by omega)
                        rw [e9, hc, hu] at this
                        cases this
                        rfl
                exact at40 6 0 (by omega) (fun j hj => absurd hj (Nat.not_lt_zero _))
              · have q0 : ¬ nI (wEn tp a) - gI s2 200 2 = nI 6 := q
                rw [ed, nI_eq (by omega) (by omega)] at q0
                rw [show kwS tp wPasses (.ok a) = false from ?_]
                · rfl
                · show kw tp wPasses a = false
                  rw [kwe]
                  refine decide_eq_false (fun e9 => q0 ?_)
                  rw [← hsl, e9]
                  rfl
            refine hP _ _ _ _ (And.intro (fun _ => at29) (fun q => ?_))
            have q0 : ¬ gI s2 200 3 ≤ nI (wEn tp a) := q
            rw [h3, nI_leI (by omega) (by omega)] at q0
            obtain ⟨c, hc⟩ : ∃ c, tp[wEn tp a]? = some c := ⟨_, List.getElem?_eq_getElem (by omega)⟩
            have hv := p1.1.2 _ c hc
            refine And.intro (show vp_in (nI (wEn tp a)) 1600 from vinN (by omega) (by decide)) ?_
            refine mcall (c_isLetter G g l d s2 _) (fun r s3 h8 => ?_)
            obtain ⟨rfl, rfl⟩ := h8
            rw [show gI s3 201 (nI (wEn tp a)).toNatClampNeg = byI tp (wEn tp a) by rw [clN (by omega), hv.1]; unfold byI; rw [hc]]
            rw [letB p1.1, show isAt isL tp (wEn tp a) = false from endE_end isL tp a]
            exact And.intro (fun _ => at29) (fun q => absurd rfl q)
          induction m with
          | zero => intro k hk hak; exact fin k (by omega)
          | succ m ih =>
            intro k hk hak
            have hkL : isAt isL tp k = true := endE_in (p := isL) (a := a) hak (by show k < wEn tp a; omega)
            have hkl := isAt_lt hkL
            obtain ⟨c, hc⟩ : ∃ c, tp[k]? = some c := ⟨_, List.getElem?_eq_getElem hkl⟩
            have hv := p1.1.2 _ c hc
            refine hP _ _ _ _ (And.intro (fun q => ?_) (fun _ => And.intro (show vp_in (nI k) 1600 from vinN (by omega) (by decide)) ?_))
            · have q0 : gI s2 200 3 ≤ nI k := q
              rw [h3, nI_leI (by omega) (by omega)] at q0
              omega
            refine mcall (c_isLetter G g l d s2 _) (fun r s3 h8 => ?_)
            obtain ⟨rfl, rfl⟩ := h8
            rw [show gI s3 201 (nI k).toNatClampNeg = byI tp k by rw [clN (by omega), hv.1]; unfold byI; rw [hc]]
            rw [letB p1.1, hkL]
            refine And.intro (fun q => absurd q (by decide)) (fun _ => ?_)
            show P 17 [some tM, some (.inr (.inr (some (.inl 263)))), some (iv (nI k + nI 1)), none] [] s3
            rw [nI_add]
            exact ih (k+1) (by omega) (by omega)
        show P 17 [some tM, some (.inr (.inr (some (.inl 263)))), some (iv (gI s2 200 2)), none] [] s2
        rw [p3]
        exact at17 (wEn tp a - a) a (by have := endE_ge isL tp a; show a + (endE isL tp a - a) = endE isL tp a; omega) (Nat.le_refl _)
      · have hpr : prLD tp a = true := pr_eq p3 p7 p9 (by omega) (by omega) q
        exact no s2 (by show kw tp wPasses a = false; unfold kw; rw [hL, hpr]; rfl) S1 O1
theorem c_takes_263 (tp : List Nat) (S : Pos) (h : PX tp S σ) (hw : Wd 263 wPasses σ) : MC G g l (d+3) mX6_takes [tM, .inr (.inr (some (.inl 263)))] σ (fun r t => r = some (iv (bI (kwS tp wPasses S))) ∧ mS [2, 4] [] σ t ∧ PX tp (takS tp wPasses S) t ∧ (kwS tp wPasses S = false → PE tp S t)) := by
  refine MC0 tX6_takes rfl okX6_takes rfl rfl rfl rfl (fun P => ?_)
  refine mcall (c_isHere_263 G g l d σ tp S h hw) (fun r s1 h8 => ?_)
  obtain ⟨rfl, S1, E1⟩ := h8
  cases hk : kwS tp wPasses S with
  | false => exact And.intro (fun q => absurd rfl q) (fun _ => ⟨nar0, rfl, S1.mono rfl rfl, takS_no hk E1, fun _ => E1⟩)
  | true =>
    refine And.intro (fun _ => ⟨nar1, rfl, ((S1.mono rfl rfl).f rfl).f rfl, ?_, fun q => by cases q⟩) (fun q => absurd q (by decide))
    exact takS_yes (n := 6) hk E1 rfl
theorem c_asks_263 (tp : List Nat) (S : Pos) (h : PX tp S σ) (hw : Wd 263 wPasses σ) : MC G g l (d+4) mX6_asks [tM, .inr (.inr (some (.inl 263)))] σ (fun r t => r = none ∧ mS [2, 4, 5, 6] [] σ t ∧ PX tp (match S with
      | .ok a => askW tp wPasses a
      | .error f => .error f) t) := by
  refine MC0 tX6_asks rfl okX6_asks rfl rfl rfl rfl (fun P => ?_)
  cases S with
  | error f => exact And.intro (fun _ => ⟨rfl, mS.rf, h⟩) (fun q => absurd q (pf_bad h))
  | ok a =>
    have p2 := h.elim (fun a' h => h.2.1)
    refine And.intro (fun q => absurd p2 q) (fun _ => ?_)
    refine mcall (c_takes_263 G g l d σ tp (.ok a) h hw) (fun r s1 h8 => ?_)
    obtain ⟨rfl, S1, X1, E1⟩ := h8
    cases hk : kwS tp wPasses (.ok a) with
    | true =>
      refine And.intro (fun _ => ⟨rfl, S1.mono rfl rfl, ?_⟩) (fun q => absurd q (by decide))
      have hk0 : kw tp wPasses a = true := hk
      show PX tp (askW tp wPasses a) s1
      unfold askW
      rw [if_pos hk0]
      have : takS tp wPasses (.ok a) = .ok (skp tp (a + wPasses.length)) := if_pos hk0
      rw [this] at X1
      exact X1
    | false =>
      have hk0 : kw tp wPasses a = false := hk
      have E2 : PO tp a a s1 := E1 hk
      refine And.intro (fun q => absurd rfl q) (fun _ => ?_)
      have hl := E2.1.len
      have ha := E2.2.2.2.2.1
      refine mcall (c_fail G g l (d+2) s1 tp (.ok a) ⟨a, E2⟩ _ _ 1 a rfl E2.2.2.1 (by omega) (by omega) (by omega)) (fun r s2 h8 => ?_)
      obtain ⟨rfl, S2, X2⟩ := h8
      refine ⟨rfl, (S1.mono rfl rfl).tr (S2.mono rfl rfl), ?_⟩
      show PX tp (askW tp wPasses a) s2
      unfold askW
      rw [if_neg (by rw [hk0]; decide)]
      exact X2
end KW_27
