section KW_0
variable (G : CX) (g : GX) (l : Launch) (d : Nat) (σ : AS)
set_option maxHeartbeats 1000000 in
theorem c_isHere_203 (tp : List Nat) (S : Pos) (h : PX tp S σ) (hw : Wd 203 wPlace σ) : MC G g l (d+2) mX6_isHere [tM, .inr (.inr (some (.inl 203)))] σ (fun r t => r = some (iv (bI (kwS tp wPlace S))) ∧ mS [2] [] σ t ∧ PE tp S t) := by
  refine MC1 tX6_isHere [12, 17, 29, 40] rfl okX6_isHere rfl rfl rfl rfl (fun P hP => ?_)
  have no : ∀ τ, kwS tp wPlace S = false → mS [2] [] σ τ → PE tp S τ → P 12 [some tM, some (.inr (.inr (some (.inl 203)))), none, none] [] τ := fun τ e hS hE => hP _ _ _ _ ⟨nar0, by rw [e]; rfl, hS, hE⟩
  refine hP _ _ _ _ ?_
  cases S with
  | error f =>
    refine And.intro (fun _ => no σ rfl mS.rf h) (fun q => absurd q (pf_bad h))
  | ok a =>
    obtain ⟨a', h9⟩ := h
    refine And.intro (fun q => absurd h9.2.1 q) (fun _ => ?_)
    refine mcall (c_look G g l d σ tp a a' h9) (fun r s1 h8 => ?_)
    obtain ⟨rfl, S1, O1⟩ := h8
    have hw1 : Wd 203 wPlace s1 := hw.keep S1 rfl rfl
    obtain ⟨p1, p2, p3, p4, p5, p6, e, p7, p8, p9, p10⟩ := O1
    have O1 : PO tp a a s1 := ⟨p1, p2, p3, p4, p5, p6, e, p7, p8, p9, p10⟩
    have hl := p1.len
    refine mcall (c_isLetter G g l d s1 (byI tp a)) (fun r s2 h8 => ?_)
    obtain ⟨rfl, rfl⟩ := h8
    rw [letB p1.1 a]
    cases hL : isAt isL tp a with
    | false => exact And.intro (fun _ => no s2 (by show kw tp wPlace a = false; unfold kw; rw [hL]; rfl) S1 O1) (fun q => absurd rfl q)
    | true =>
      refine And.intro (fun q => absurd q (by decide)) (fun _ => And.intro (fun q => ?_) (fun q => ?_))
      · have hpr : prLD tp a = false := pr_ne p3 p7 p9 (by omega) (by omega) q
        have at17 : ∀ (m k : Nat), k + m = wEn tp a → a ≤ k → P 17 [some tM, some (.inr (.inr (some (.inl 203)))), some (iv (nI k)), none] [] s2 := by
          intro m
          have hwl : wEn tp a ≤ tp.length := endE_le isL p5
          have h3 : gI s2 200 3 = nI tp.length := p1.2
          have fin : ∀ k, k = wEn tp a → P 17 [some tM, some (.inr (.inr (some (.inl 203)))), some (iv (nI k)), none] [] s2 := by
            intro k hk
            subst hk
            have aw : a ≤ wEn tp a := endE_ge isL tp a
            have ed : nI (wEn tp a) - gI s2 200 2 = nI (wEn tp a - a) := by rw [p3]; exact nI_s1 _ _ aw
            have hsl := sub_len (tp := tp) (a := a) hwl
            have kwe : kw tp wPlace a = decide (sub_ tp a (wEn tp a) = wPlace) := by unfold kw; rw [hL, hpr]; rfl
            have at29 : P 29 [some tM, some (.inr (.inr (some (.inl 203)))), some (iv (nI (wEn tp a))), none] [] s2 := by
              refine hP _ _ _ _ (And.intro (fun q => ?_) (fun q => ⟨nar0, ?_, S1, O1⟩))
              · have q0 : nI (wEn tp a) - gI s2 200 2 = nI 5 := q
                rw [ed, nI_eq (by omega) (by omega)] at q0
                have at40 : ∀ (m i : Nat), i + m = 5 → (∀ j, j < i → tp[a + j]? = wPlace[j]?) → P 40 [some tM, some (.inr (.inr (some (.inl 203)))), some (iv (nI (wEn tp a))), some (iv (nI i))] [] s2 := by
                  intro m
                  induction m with
                  | zero =>
                    intro i hi hall
                    refine hP _ _ _ _ (And.intro (fun _ => ⟨nar1, ?_, S1, O1⟩) (fun q => absurd (show nI 5 ≤ nI i from nI_le (by omega) (by omega)) q))
                    rw [show kwS tp wPlace (.ok a) = true from ?_]
                    · rfl
                    · show kw tp wPlace a = true
                      rw [kwe]
                      refine decide_eq_true (List.ext_getElem? (fun j => ?_))
                      by_cases hj : j < 5
                      · rw [sub_get (by omega)]; exact hall j (by omega)
                      · rw [List.getElem?_eq_none (by omega), List.getElem?_eq_none (show wPlace.length ≤ j by show 5 ≤ j; omega)]
                  | succ m ih =>
                    intro i hi hall
                    have hil : a + i < tp.length := by omega
                    obtain ⟨c, hc⟩ : ∃ c, tp[a + i]? = some c := ⟨_, List.getElem?_eq_getElem hil⟩
                    obtain ⟨u, hu⟩ : ∃ u, wPlace[i]? = some u := ⟨_, List.getElem?_eq_getElem (show i < wPlace.length by show i < 5; omega)⟩
                    have hv := p1.1.2 _ c hc
                    have hu2 := hw1.1 i u hu
                    have ei : gI s2 200 2 + nI i = nI (a + i) := by rw [p3, nI_add]
                    have g1 : gI s2 201 (gI s2 200 2 + nI i).toNatClampNeg = nI c := by rw [ei, clN (by omega), hv.1]
                    have g2 : gI s2 203 (nI i).toNatClampNeg = nI u := by rw [clN (by omega), hu2]
                    have hub := hw1.2 u (List.mem_of_getElem? hu)
                    refine hP _ _ _ _ (And.intro (fun q => absurd q (show ¬ nI 5 ≤ nI i from nI_ge (by omega) (by omega))) (fun _ => And.intro (show vp_in (gI s2 200 2 + nI i) 1600 from by rw [ei]; exact vinN (by omega) (by decide)) (And.intro (show vp_in (nI i) 5 from vinN (by omega) (by decide)) (And.intro (fun q => ?_) (fun q => ⟨nar0, ?_, S1, O1⟩)))))
                    · have q1 : gI s2 201 (gI s2 200 2 + nI i).toNatClampNeg = gI s2 203 (nI i).toNatClampNeg := q
                      rw [g1, g2, nI_eq (by omega) (by omega)] at q1
                      show P 40 [some tM, some (.inr (.inr (some (.inl 203)))), some (iv (nI (wEn tp a))), some (iv (nI i + nI 1))] [] s2
                      rw [nI_add]
                      refine ih (i+1) (by omega) (fun j hj => ?_)
                      by_cases ej : j = i
                      · rw [ej, hc, hu, q1]
                      · exact hall j (by omega)
                    · have q1 : ¬ gI s2 201 (gI s2 200 2 + nI i).toNatClampNeg = gI s2 203 (nI i).toNatClampNeg := q
                      rw [g1, g2, nI_eq (by omega) (by omega)] at q1
                      rw [show kwS tp wPlace (.ok a) = false from ?_]
                      · rfl
                      · show kw tp wPlace a = false
                        rw [kwe]
                        refine decide_eq_false (fun e9 => q1 ?_)
                        have := sub_get (tp := tp) (a := a) (b := wEn tp a) (i := i) (by omega)
                        rw [e9, hc, hu] at this
                        cases this
                        rfl
                exact at40 5 0 (by omega) (fun j hj => absurd hj (Nat.not_lt_zero _))
              · have q0 : ¬ nI (wEn tp a) - gI s2 200 2 = nI 5 := q
                rw [ed, nI_eq (by omega) (by omega)] at q0
                rw [show kwS tp wPlace (.ok a) = false from ?_]
                · rfl
                · show kw tp wPlace a = false
                  rw [kwe]
                  refine decide_eq_false (fun e9 => q0 ?_)
                  rw [← hsl, e9]
                  rfl
            refine hP _ _ _ _ (And.intro (fun _ => at29) (fun q => ?_))
            have q0 : ¬ gI s2 200 3 ≤ nI (wEn tp a) := q
            rw [h3, nI_leI (by omega) (by omega)] at q0
            obtain ⟨c, hc⟩ : ∃ c, tp[wEn tp a]? = some c := ⟨_, List.getElem?_eq_getElem (by omega)⟩
            have hv := p1.1.2 _ c hc
            refine And.intro (show vp_in (nI (wEn tp a)) 1600 from vinN (by omega) (by decide)) ?_
            refine mcall (c_isLetter G g l d s2 _) (fun r s3 h8 => ?_)
            obtain ⟨rfl, rfl⟩ := h8
            rw [show gI s3 201 (nI (wEn tp a)).toNatClampNeg = byI tp (wEn tp a) by rw [clN (by omega), hv.1]; unfold byI; rw [hc]]
            rw [letB p1.1, show isAt isL tp (wEn tp a) = false from endE_end isL tp a]
            exact And.intro (fun _ => at29) (fun q => absurd rfl q)
          induction m with
          | zero => intro k hk hak; exact fin k (by omega)
          | succ m ih =>
            intro k hk hak
            have hkL : isAt isL tp k = true := endE_in (p := isL) (a := a) hak (by show k < wEn tp a; omega)
            have hkl := isAt_lt hkL
            obtain ⟨c, hc⟩ : ∃ c, tp[k]? = some c := ⟨_, List.getElem?_eq_getElem hkl⟩
            have hv := p1.1.2 _ c hc
            refine hP _ _ _ _ (And.intro (fun q => ?_) (fun _ => And.intro (show vp_in (nI k) 1600 from vinN (by omega) (by decide)) ?_))
            · have q0 : gI s2 200 3 ≤ nI k := q
              rw [h3, nI_leI (by omega) (by omega)] at q0
              omega
            refine mcall (c_isLetter G g l d s2 _) (fun r s3 h8 => ?_)
            obtain ⟨rfl, rfl⟩ := h8
            rw [show gI s3 201 (nI k).toNatClampNeg = byI tp k by rw [clN (by omega), hv.1]; unfold byI; rw [hc]]
            rw [letB p1.1, hkL]
            refine And.intro (fun q => absurd q (by decide)) (fun _ => ?_)
            show P 17 [some tM, some (.inr (.inr (some (.inl 203)))), some (iv (nI k + nI 1)), none] [] s3
            rw [nI_add]
            exact ih (k+1) (by omega) (by omega)
        show P 17 [some tM, some (.inr (.inr (some (.inl 203)))), some (iv (gI s2 200 2)), none] [] s2
        rw [p3]
        exact at17 (wEn tp a - a) a (by have := endE_ge isL tp a; show a + (endE isL tp a - a) = endE isL tp a; omega) (Nat.le_refl _)
      · have hpr : prLD tp a = true := pr_eq p3 p7 p9 (by omega) (by omega) q
        exact no s2 (by show kw tp wPlace a = false; unfold kw; rw [hL, hpr]; rfl) S1 O1
theorem c_takes_203 (tp : List Nat) (S : Pos) (h : PX tp S σ) (hw : Wd 203 wPlace σ) : MC G g l (d+3) mX6_takes [tM, .inr (.inr (some (.inl 203)))] σ (fun r t => r = some (iv (bI (kwS tp wPlace S))) ∧ mS [2, 4] [] σ t ∧ PX tp (takS tp wPlace S) t ∧ (kwS tp wPlace S = false → PE tp S t)) := by
  refine MC0 tX6_takes rfl okX6_takes rfl rfl rfl rfl (fun P => ?_)
  refine mcall (c_isHere_203 G g l d σ tp S h hw) (fun r s1 h8 => ?_)
  obtain ⟨rfl, S1, E1⟩ := h8
  cases hk : kwS tp wPlace S with
  | false => exact And.intro (fun q => absurd rfl q) (fun _ => ⟨nar0, rfl, S1.mono rfl rfl, takS_no hk E1, fun _ => E1⟩)
  | true =>
    refine And.intro (fun _ => ⟨nar1, rfl, ((S1.mono rfl rfl).f rfl).f rfl, ?_, fun q => by cases q⟩) (fun q => absurd q (by decide))
    exact takS_yes (n := 5) hk E1 rfl
theorem c_asks_203 (tp : List Nat) (S : Pos) (h : PX tp S σ) (hw : Wd 203 wPlace σ) : MC G g l (d+4) mX6_asks [tM, .inr (.inr (some (.inl 203)))] σ (fun r t => r = none ∧ mS [2, 4, 5, 6] [] σ t ∧ PX tp (match S with
      | .ok a => askW tp wPlace a
      | .error f => .error f) t) := by
  refine MC0 tX6_asks rfl okX6_asks rfl rfl rfl rfl (fun P => ?_)
  cases S with
  | error f => exact And.intro (fun _ => ⟨rfl, mS.rf, h⟩) (fun q => absurd q (pf_bad h))
  | ok a =>
    have p2 := h.elim (fun a' h => h.2.1)
    refine And.intro (fun q => absurd p2 q) (fun _ => ?_)
    refine mcall (c_takes_203 G g l d σ tp (.ok a) h hw) (fun r s1 h8 => ?_)
    obtain ⟨rfl, S1, X1, E1⟩ := h8
    cases hk : kwS tp wPlace (.ok a) with
    | true =>
      refine And.intro (fun _ => ⟨rfl, S1.mono rfl rfl, ?_⟩) (fun q => absurd q (by decide))
      have hk0 : kw tp wPlace a = true := hk
      show PX tp (askW tp wPlace a) s1
      unfold askW
      rw [if_pos hk0]
      have : takS tp wPlace (.ok a) = .ok (skp tp (a + wPlace.length)) := if_pos hk0
      rw [this] at X1
      exact X1
    | false =>
      have hk0 : kw tp wPlace a = false := hk
      have E2 : PO tp a a s1 := E1 hk
      refine And.intro (fun q => absurd rfl q) (fun _ => ?_)
      have hl := E2.1.len
      have ha := E2.2.2.2.2.1
      refine mcall (c_fail G g l (d+2) s1 tp (.ok a) ⟨a, E2⟩ _ _ 1 a rfl E2.2.2.1 (by omega) (by omega) (by omega)) (fun r s2 h8 => ?_)
      obtain ⟨rfl, S2, X2⟩ := h8
      refine ⟨rfl, (S1.mono rfl rfl).tr (S2.mono rfl rfl), ?_⟩
      show PX tp (askW tp wPlace a) s2
      unfold askW
      rw [if_neg (by rw [hk0]; decide)]
      exact X2
set_option maxHeartbeats 1000000 in
theorem c_isHere_204 (tp : List Nat) (S : Pos) (h : PX tp S σ) (hw : Wd 204 wStreet σ) : MC G g l (d+2) mX6_isHere [tM, .inr (.inr (some (.inl 204)))] σ (fun r t => r = some (iv (bI (kwS tp wStreet S))) ∧ mS [2] [] σ t ∧ PE tp S t) := by
  refine MC1 tX6_isHere [12, 17, 29, 40] rfl okX6_isHere rfl rfl rfl rfl (fun P hP => ?_)
  have no : ∀ τ, kwS tp wStreet S = false → mS [2] [] σ τ → PE tp S τ → P 12 [some tM, some (.inr (.inr (some (.inl 204)))), none, none] [] τ := fun τ e hS hE => hP _ _ _ _ ⟨nar0, by rw [e]; rfl, hS, hE⟩
  refine hP _ _ _ _ ?_
  cases S with
  | error f =>
    refine And.intro (fun _ => no σ rfl mS.rf h) (fun q => absurd q (pf_bad h))
  | ok a =>
    obtain ⟨a', h9⟩ := h
    refine And.intro (fun q => absurd h9.2.1 q) (fun _ => ?_)
    refine mcall (c_look G g l d σ tp a a' h9) (fun r s1 h8 => ?_)
    obtain ⟨rfl, S1, O1⟩ := h8
    have hw1 : Wd 204 wStreet s1 := hw.keep S1 rfl rfl
    obtain ⟨p1, p2, p3, p4, p5, p6, e, p7, p8, p9, p10⟩ := O1
    have O1 : PO tp a a s1 := ⟨p1, p2, p3, p4, p5, p6, e, p7, p8, p9, p10⟩
    have hl := p1.len
    refine mcall (c_isLetter G g l d s1 (byI tp a)) (fun r s2 h8 => ?_)
    obtain ⟨rfl, rfl⟩ := h8
    rw [letB p1.1 a]
    cases hL : isAt isL tp a with
    | false => exact And.intro (fun _ => no s2 (by show kw tp wStreet a = false; unfold kw; rw [hL]; rfl) S1 O1) (fun q => absurd rfl q)
    | true =>
      refine And.intro (fun q => absurd q (by decide)) (fun _ => And.intro (fun q => ?_) (fun q => ?_))
      · have hpr : prLD tp a = false := pr_ne p3 p7 p9 (by omega) (by omega) q
        have at17 : ∀ (m k : Nat), k + m = wEn tp a → a ≤ k → P 17 [some tM, some (.inr (.inr (some (.inl 204)))), some (iv (nI k)), none] [] s2 := by
          intro m
          have hwl : wEn tp a ≤ tp.length := endE_le isL p5
          have h3 : gI s2 200 3 = nI tp.length := p1.2
          have fin : ∀ k, k = wEn tp a → P 17 [some tM, some (.inr (.inr (some (.inl 204)))), some (iv (nI k)), none] [] s2 := by
            intro k hk
            subst hk
            have aw : a ≤ wEn tp a := endE_ge isL tp a
            have ed : nI (wEn tp a) - gI s2 200 2 = nI (wEn tp a - a) := by rw [p3]; exact nI_s1 _ _ aw
            have hsl := sub_len (tp := tp) (a := a) hwl
            have kwe : kw tp wStreet a = decide (sub_ tp a (wEn tp a) = wStreet) := by unfold kw; rw [hL, hpr]; rfl
            have at29 : P 29 [some tM, some (.inr (.inr (some (.inl 204)))), some (iv (nI (wEn tp a))), none] [] s2 := by
              refine hP _ _ _ _ (And.intro (fun q => ?_) (fun q => ⟨nar0, ?_, S1, O1⟩))
              · have q0 : nI (wEn tp a) - gI s2 200 2 = nI 6 := q
                rw [ed, nI_eq (by omega) (by omega)] at q0
                have at40 : ∀ (m i : Nat), i + m = 6 → (∀ j, j < i → tp[a + j]? = wStreet[j]?) → P 40 [some tM, some (.inr (.inr (some (.inl 204)))), some (iv (nI (wEn tp a))), some (iv (nI i))] [] s2 := by
                  intro m
                  induction m with
                  | zero =>
                    intro i hi hall
                    refine hP _ _ _ _ (And.intro (fun _ => ⟨nar1, ?_, S1, O1⟩) (fun q => absurd (show nI 6 ≤ nI i from nI_le (by omega) (by omega)) q))
                    rw [show kwS tp wStreet (.ok a) = true from ?_]
                    · rfl
                    · show kw tp wStreet a = true
                      rw [kwe]
                      refine decide_eq_true (List.ext_getElem? (fun j => ?_))
                      by_cases hj : j < 6
                      · rw [sub_get (by omega)]; exact hall j (by omega)
                      · rw [List.getElem?_eq_none (by omega), List.getElem?_eq_none (show wStreet.length ≤ j by show 6 ≤ j; omega)]
                  | succ m ih =>
                    intro i hi hall
                    have hil : a + i < tp.length := by omega
                    obtain ⟨c, hc⟩ : ∃ c, tp[a + i]? = some c := ⟨_, List.getElem?_eq_getElem hil⟩
                    obtain ⟨u, hu⟩ : ∃ u, wStreet[i]? = some u := ⟨_, List.getElem?_eq_getElem (show i < wStreet.length by show i < 6; omega)⟩
                    have hv := p1.1.2 _ c hc
                    have hu2 := hw1.1 i u hu
                    have ei : gI s2 200 2 + nI i = nI (a + i) := by rw [p3, nI_add]
                    have g1 : gI s2 201 (gI s2 200 2 + nI i).toNatClampNeg = nI c := by rw [ei, clN (by omega), hv.1]
                    have g2 : gI s2 204 (nI i).toNatClampNeg = nI u := by rw [clN (by omega), hu2]
                    have hub := hw1.2 u (List.mem_of_getElem? hu)
                    refine hP _ _ _ _ (And.intro (fun q => absurd q (show ¬ nI 6 ≤ nI i from nI_ge (by omega) (by omega))) (fun _ => And.intro (show vp_in (gI s2 200 2 + nI i) 1600 from by rw [ei]; exact vinN (by omega) (by decide)) (And.intro (show vp_in (nI i) 6 from vinN (by omega) (by decide)) (And.intro (fun q => ?_) (fun q => ⟨nar0, ?_, S1, O1⟩)))))
                    · have q1 : gI s2 201 (gI s2 200 2 + nI i).toNatClampNeg = gI s2 204 (nI i).toNatClampNeg := q
                      rw [g1, g2, nI_eq (by omega) (by omega)] at q1
                      show P 40 [some tM, some (.inr (.inr (some (.inl 204)))), some (iv (nI (wEn tp a))), some (iv (nI i + nI 1))] [] s2
                      rw [nI_add]
                      refine ih (i+1) (by omega) (fun j hj => ?_)
                      by_cases ej : j = i
                      · rw [ej, hc, hu, q1]
                      · exact hall j (by omega)
                    · have q1 : ¬ gI s2 201 (gI s2 200 2 + nI i).toNatClampNeg = gI s2 204 (nI i).toNatClampNeg := q
                      rw [g1, g2, nI_eq (by omega) (by omega)] at q1
                      rw [show kwS tp wStreet (.ok a) = false from ?_]
                      · rfl
                      · show kw tp wStreet a = false
                        rw [kwe]
                        refine decide_eq_false (fun e9 => q1 ?_)
                        have := sub_get (tp := tp) (a := a) (b := wEn tp a) (i := i) (by omega)
                        rw [e9, hc, hu] at this
                        cases this
                        rfl
                exact at40 6 0 (by omega) (fun j hj => absurd hj (Nat.not_lt_zero _))
              · have q0 : ¬ nI (wEn tp a) - gI s2 200 2 = nI 6 := q
                rw [ed, nI_eq (by omega) (by omega)] at q0
                rw [show kwS tp wStreet (.ok a) = false from ?_]
                · rfl
                · show kw tp wStreet a = false
                  rw [kwe]
                  refine decide_eq_false (fun e9 => q0 ?_)
                  rw [← hsl, e9]
                  rfl
            refine hP _ _ _ _ (And.intro (fun _ => at29) (fun q => ?_))
            have q0 : ¬ gI s2 200 3 ≤ nI (wEn tp a) := q
            rw [h3, nI_leI (by omega) (by omega)] at q0
            obtain ⟨c, hc⟩ : ∃ c, tp[wEn tp a]? = some c := ⟨_, List.getElem?_eq_getElem (by omega)⟩
            have hv := p1.1.2 _ c hc
            refine And.intro (show vp_in (nI (wEn tp a)) 1600 from vinN (by omega) (by decide)) ?_
            refine mcall (c_isLetter G g l d s2 _) (fun r s3 h8 => ?_)
            obtain ⟨rfl, rfl⟩ := h8
            rw [show gI s3 201 (nI (wEn tp a)).toNatClampNeg = byI tp (wEn tp a) by rw [clN (by omega), hv.1]; unfold byI; rw [hc]]
            rw [letB p1.1, show isAt isL tp (wEn tp a) = false from endE_end isL tp a]
            exact And.intro (fun _ => at29) (fun q => absurd rfl q)
          induction m with
          | zero => intro k hk hak; exact fin k (by omega)
          | succ m ih =>
            intro k hk hak
            have hkL : isAt isL tp k = true := endE_in (p := isL) (a := a) hak (by show k < wEn tp a; omega)
            have hkl := isAt_lt hkL
            obtain ⟨c, hc⟩ : ∃ c, tp[k]? = some c := ⟨_, List.getElem?_eq_getElem hkl⟩
            have hv := p1.1.2 _ c hc
            refine hP _ _ _ _ (And.intro (fun q => ?_) (fun _ => And.intro (show vp_in (nI k) 1600 from vinN (by omega) (by decide)) ?_))
            · have q0 : gI s2 200 3 ≤ nI k := q
              rw [h3, nI_leI (by omega) (by omega)] at q0
              omega
            refine mcall (c_isLetter G g l d s2 _) (fun r s3 h8 => ?_)
            obtain ⟨rfl, rfl⟩ := h8
            rw [show gI s3 201 (nI k).toNatClampNeg = byI tp k by rw [clN (by omega), hv.1]; unfold byI; rw [hc]]
            rw [letB p1.1, hkL]
            refine And.intro (fun q => absurd q (by decide)) (fun _ => ?_)
            show P 17 [some tM, some (.inr (.inr (some (.inl 204)))), some (iv (nI k + nI 1)), none] [] s3
            rw [nI_add]
            exact ih (k+1) (by omega) (by omega)
        show P 17 [some tM, some (.inr (.inr (some (.inl 204)))), some (iv (gI s2 200 2)), none] [] s2
        rw [p3]
        exact at17 (wEn tp a - a) a (by have := endE_ge isL tp a; show a + (endE isL tp a - a) = endE isL tp a; omega) (Nat.le_refl _)
      · have hpr : prLD tp a = true := pr_eq p3 p7 p9 (by omega) (by omega) q
        exact no s2 (by show kw tp wStreet a = false; unfold kw; rw [hL, hpr]; rfl) S1 O1
theorem c_takes_204 (tp : List Nat) (S : Pos) (h : PX tp S σ) (hw : Wd 204 wStreet σ) : MC G g l (d+3) mX6_takes [tM, .inr (.inr (some (.inl 204)))] σ (fun r t => r = some (iv (bI (kwS tp wStreet S))) ∧ mS [2, 4] [] σ t ∧ PX tp (takS tp wStreet S) t ∧ (kwS tp wStreet S = false → PE tp S t)) := by
  refine MC0 tX6_takes rfl okX6_takes rfl rfl rfl rfl (fun P => ?_)
  refine mcall (c_isHere_204 G g l d σ tp S h hw) (fun r s1 h8 => ?_)
  obtain ⟨rfl, S1, E1⟩ := h8
  cases hk : kwS tp wStreet S with
  | false => exact And.intro (fun q => absurd rfl q) (fun _ => ⟨nar0, rfl, S1.mono rfl rfl, takS_no hk E1, fun _ => E1⟩)
  | true =>
    refine And.intro (fun _ => ⟨nar1, rfl, ((S1.mono rfl rfl).f rfl).f rfl, ?_, fun q => by cases q⟩) (fun q => absurd q (by decide))
    exact takS_yes (n := 6) hk E1 rfl
theorem c_asks_204 (tp : List Nat) (S : Pos) (h : PX tp S σ) (hw : Wd 204 wStreet σ) : MC G g l (d+4) mX6_asks [tM, .inr (.inr (some (.inl 204)))] σ (fun r t => r = none ∧ mS [2, 4, 5, 6] [] σ t ∧ PX tp (match S with
      | .ok a => askW tp wStreet a
      | .error f => .error f) t) := by
  refine MC0 tX6_asks rfl okX6_asks rfl rfl rfl rfl (fun P => ?_)
  cases S with
  | error f => exact And.intro (fun _ => ⟨rfl, mS.rf, h⟩) (fun q => absurd q (pf_bad h))
  | ok a =>
    have p2 := h.elim (fun a' h => h.2.1)
    refine And.intro (fun q => absurd p2 q) (fun _ => ?_)
    refine mcall (c_takes_204 G g l d σ tp (.ok a) h hw) (fun r s1 h8 => ?_)
    obtain ⟨rfl, S1, X1, E1⟩ := h8
    cases hk : kwS tp wStreet (.ok a) with
    | true =>
      refine And.intro (fun _ => ⟨rfl, S1.mono rfl rfl, ?_⟩) (fun q => absurd q (by decide))
      have hk0 : kw tp wStreet a = true := hk
      show PX tp (askW tp wStreet a) s1
      unfold askW
      rw [if_pos hk0]
      have : takS tp wStreet (.ok a) = .ok (skp tp (a + wStreet.length)) := if_pos hk0
      rw [this] at X1
      exact X1
    | false =>
      have hk0 : kw tp wStreet a = false := hk
      have E2 : PO tp a a s1 := E1 hk
      refine And.intro (fun q => absurd rfl q) (fun _ => ?_)
      have hl := E2.1.len
      have ha := E2.2.2.2.2.1
      refine mcall (c_fail G g l (d+2) s1 tp (.ok a) ⟨a, E2⟩ _ _ 1 a rfl E2.2.2.1 (by omega) (by omega) (by omega)) (fun r s2 h8 => ?_)
      obtain ⟨rfl, S2, X2⟩ := h8
      refine ⟨rfl, (S1.mono rfl rfl).tr (S2.mono rfl rfl), ?_⟩
      show PX tp (askW tp wStreet a) s2
      unfold askW
      rw [if_neg (by rw [hk0]; decide)]
      exact X2
set_option maxHeartbeats 1000000 in
theorem c_isHere_205 (tp : List Nat) (S : Pos) (h : PX tp S σ) (hw : Wd 205 wFrom σ) : MC G g l (d+2) mX6_isHere [tM, .inr (.inr (some (.inl 205)))] σ (fun r t => r = some (iv (bI (kwS tp wFrom S))) ∧ mS [2] [] σ t ∧ PE tp S t) := by
  refine MC1 tX6_isHere [12, 17, 29, 40] rfl okX6_isHere rfl rfl rfl rfl (fun P hP => ?_)
  have no : ∀ τ, kwS tp wFrom S = false → mS [2] [] σ τ → PE tp S τ → P 12 [some tM, some (.inr (.inr (some (.inl 205)))), none, none] [] τ := fun τ e hS hE => hP _ _ _ _ ⟨nar0, by rw [e]; rfl, hS, hE⟩
  refine hP _ _ _ _ ?_
  cases S with
  | error f =>
    refine And.intro (fun _ => no σ rfl mS.rf h) (fun q => absurd q (pf_bad h))
  | ok a =>
    obtain ⟨a', h9⟩ := h
    refine And.intro (fun q => absurd h9.2.1 q) (fun _ => ?_)
    refine mcall (c_look G g l d σ tp a a' h9) (fun r s1 h8 => ?_)
    obtain ⟨rfl, S1, O1⟩ := h8
    have hw1 : Wd 205 wFrom s1 := hw.keep S1 rfl rfl
    obtain ⟨p1, p2, p3, p4, p5, p6, e, p7, p8, p9, p10⟩ := O1
    have O1 : PO tp a a s1 := ⟨p1, p2, p3, p4, p5, p6, e, p7, p8, p9, p10⟩
    have hl := p1.len
    refine mcall (c_isLetter G g l d s1 (byI tp a)) (fun r s2 h8 => ?_)
    obtain ⟨rfl, rfl⟩ := h8
    rw [letB p1.1 a]
    cases hL : isAt isL tp a with
    | false => exact And.intro (fun _ => no s2 (by show kw tp wFrom a = false; unfold kw; rw [hL]; rfl) S1 O1) (fun q => absurd rfl q)
    | true =>
      refine And.intro (fun q => absurd q (by decide)) (fun _ => And.intro (fun q => ?_) (fun q => ?_))
      · have hpr : prLD tp a = false := pr_ne p3 p7 p9 (by omega) (by omega) q
        have at17 : ∀ (m k : Nat), k + m = wEn tp a → a ≤ k → P 17 [some tM, some (.inr (.inr (some (.inl 205)))), some (iv (nI k)), none] [] s2 := by
          intro m
          have hwl : wEn tp a ≤ tp.length := endE_le isL p5
          have h3 : gI s2 200 3 = nI tp.length := p1.2
          have fin : ∀ k, k = wEn tp a → P 17 [some tM, some (.inr (.inr (some (.inl 205)))), some (iv (nI k)), none] [] s2 := by
            intro k hk
            subst hk
            have aw : a ≤ wEn tp a := endE_ge isL tp a
            have ed : nI (wEn tp a) - gI s2 200 2 = nI (wEn tp a - a) := by rw [p3]; exact nI_s1 _ _ aw
            have hsl := sub_len (tp := tp) (a := a) hwl
            have kwe : kw tp wFrom a = decide (sub_ tp a (wEn tp a) = wFrom) := by unfold kw; rw [hL, hpr]; rfl
            have at29 : P 29 [some tM, some (.inr (.inr (some (.inl 205)))), some (iv (nI (wEn tp a))), none] [] s2 := by
              refine hP _ _ _ _ (And.intro (fun q => ?_) (fun q => ⟨nar0, ?_, S1, O1⟩))
              · have q0 : nI (wEn tp a) - gI s2 200 2 = nI 4 := q
                rw [ed, nI_eq (by omega) (by omega)] at q0
                have at40 : ∀ (m i : Nat), i + m = 4 → (∀ j, j < i → tp[a + j]? = wFrom[j]?) → P 40 [some tM, some (.inr (.inr (some (.inl 205)))), some (iv (nI (wEn tp a))), some (iv (nI i))] [] s2 := by
                  intro m
                  induction m with
                  | zero =>
                    intro i hi hall
                    refine hP _ _ _ _ (And.intro (fun _ => ⟨nar1, ?_, S1, O1⟩) (fun q => absurd (show nI 4 ≤ nI i from nI_le (by omega) (by omega)) q))
                    rw [show kwS tp wFrom (.ok a) = true from ?_]
                    · rfl
                    · show kw tp wFrom a = true
                      rw [kwe]
                      refine decide_eq_true (List.ext_getElem? (fun j => ?_))
                      by_cases hj : j < 4
                      · rw [sub_get (by omega)]; exact hall j (by omega)
                      · rw [List.getElem?_eq_none (by omega), List.getElem?_eq_none (show wFrom.length ≤ j by show 4 ≤ j; omega)]
                  | succ m ih =>
                    intro i hi hall
                    have hil : a + i < tp.length := by omega
                    obtain ⟨c, hc⟩ : ∃ c, tp[a + i]? = some c := ⟨_, List.getElem?_eq_getElem hil⟩
                    obtain ⟨u, hu⟩ : ∃ u, wFrom[i]? = some u := ⟨_, List.getElem?_eq_getElem (show i < wFrom.length by show i < 4; omega)⟩
                    have hv := p1.1.2 _ c hc
                    have hu2 := hw1.1 i u hu
                    have ei : gI s2 200 2 + nI i = nI (a + i) := by rw [p3, nI_add]
                    have g1 : gI s2 201 (gI s2 200 2 + nI i).toNatClampNeg = nI c := by rw [ei, clN (by omega), hv.1]
                    have g2 : gI s2 205 (nI i).toNatClampNeg = nI u := by rw [clN (by omega), hu2]
                    have hub := hw1.2 u (List.mem_of_getElem? hu)
                    refine hP _ _ _ _ (And.intro (fun q => absurd q (show ¬ nI 4 ≤ nI i from nI_ge (by omega) (by omega))) (fun _ => And.intro (show vp_in (gI s2 200 2 + nI i) 1600 from by rw [ei]; exact vinN (by omega) (by decide)) (And.intro (show vp_in (nI i) 4 from vinN (by omega) (by decide)) (And.intro (fun q => ?_) (fun q => ⟨nar0, ?_, S1, O1⟩)))))
                    · have q1 : gI s2 201 (gI s2 200 2 + nI i).toNatClampNeg = gI s2 205 (nI i).toNatClampNeg := q
                      rw [g1, g2, nI_eq (by omega) (by omega)] at q1
                      show P 40 [some tM, some (.inr (.inr (some (.inl 205)))), some (iv (nI (wEn tp a))), some (iv (nI i + nI 1))] [] s2
                      rw [nI_add]
                      refine ih (i+1) (by omega) (fun j hj => ?_)
                      by_cases ej : j = i
                      · rw [ej, hc, hu, q1]
                      · exact hall j (by omega)
                    · have q1 : ¬ gI s2 201 (gI s2 200 2 + nI i).toNatClampNeg = gI s2 205 (nI i).toNatClampNeg := q
                      rw [g1, g2, nI_eq (by omega) (by omega)] at q1
                      rw [show kwS tp wFrom (.ok a) = false from ?_]
                      · rfl
                      · show kw tp wFrom a = false
                        rw [kwe]
                        refine decide_eq_false (fun e9 => q1 ?_)
                        have := sub_get (tp := tp) (a := a) (b := wEn tp a) (i := i) (by omega)
                        rw [e9, hc, hu] at this
                        cases this
                        rfl
                exact at40 4 0 (by omega) (fun j hj => absurd hj (Nat.not_lt_zero _))
              · have q0 : ¬ nI (wEn tp a) - gI s2 200 2 = nI 4 := q
                rw [ed, nI_eq (by omega) (by omega)] at q0
                rw [show kwS tp wFrom (.ok a) = false from ?_]
                · rfl
                · show kw tp wFrom a = false
                  rw [kwe]
                  refine decide_eq_false (fun e9 => q0 ?_)
                  rw [← hsl, e9]
                  rfl
            refine hP _ _ _ _ (And.intro (fun _ => at29) (fun q => ?_))
            have q0 : ¬ gI s2 200 3 ≤ nI (wEn tp a) := q
            rw [h3, nI_leI (by omega) (by omega)] at q0
            obtain ⟨c, hc⟩ : ∃ c, tp[wEn tp a]? = some c := ⟨_, List.getElem?_eq_getElem (by omega)⟩
            have hv := p1.1.2 _ c hc
            refine And.intro (show vp_in (nI (wEn tp a)) 1600 from vinN (by omega) (by decide)) ?_
            refine mcall (c_isLetter G g l d s2 _) (fun r s3 h8 => ?_)
            obtain ⟨rfl, rfl⟩ := h8
            rw [show gI s3 201 (nI (wEn tp a)).toNatClampNeg = byI tp (wEn tp a) by rw [clN (by omega), hv.1]; unfold byI; rw [hc]]
            rw [letB p1.1, show isAt isL tp (wEn tp a) = false from endE_end isL tp a]
            exact And.intro (fun _ => at29) (fun q => absurd rfl q)
          induction m with
          | zero => intro k hk hak; exact fin k (by omega)
          | succ m ih =>
            intro k hk hak
            have hkL : isAt isL tp k = true := endE_in (p := isL) (a := a) hak (by show k < wEn tp a; omega)
            have hkl := isAt_lt hkL
            obtain ⟨c, hc⟩ : ∃ c, tp[k]? = some c := ⟨_, List.getElem?_eq_getElem hkl⟩
            have hv := p1.1.2 _ c hc
            refine hP _ _ _ _ (And.intro (fun q => ?_) (fun _ => And.intro (show vp_in (nI k) 1600 from vinN (by omega) (by decide)) ?_))
            · have q0 : gI s2 200 3 ≤ nI k := q
              rw [h3, nI_leI (by omega) (by omega)] at q0
              omega
            refine mcall (c_isLetter G g l d s2 _) (fun r s3 h8 => ?_)
            obtain ⟨rfl, rfl⟩ := h8
            rw [show gI s3 201 (nI k).toNatClampNeg = byI tp k by rw [clN (by omega), hv.1]; unfold byI; rw [hc]]
            rw [letB p1.1, hkL]
            refine And.intro (fun q => absurd q (by decide)) (fun _ => ?_)
            show P 17 [some tM, some (.inr (.inr (some (.inl 205)))), some (iv (nI k + nI 1)), none] [] s3
            rw [nI_add]
            exact ih (k+1) (by omega) (by omega)
        show P 17 [some tM, some (.inr (.inr (some (.inl 205)))), some (iv (gI s2 200 2)), none] [] s2
        rw [p3]
        exact at17 (wEn tp a - a) a (by have := endE_ge isL tp a; show a + (endE isL tp a - a) = endE isL tp a; omega) (Nat.le_refl _)
      · have hpr : prLD tp a = true := pr_eq p3 p7 p9 (by omega) (by omega) q
        exact no s2 (by show kw tp wFrom a = false; unfold kw; rw [hL, hpr]; rfl) S1 O1
theorem c_takes_205 (tp : List Nat) (S : Pos) (h : PX tp S σ) (hw : Wd 205 wFrom σ) : MC G g l (d+3) mX6_takes [tM, .inr (.inr (some (.inl 205)))] σ (fun r t => r = some (iv (bI (kwS tp wFrom S))) ∧ mS [2, 4] [] σ t ∧ PX tp (takS tp wFrom S) t ∧ (kwS tp wFrom S = false → PE tp S t)) := by
  refine MC0 tX6_takes rfl okX6_takes rfl rfl rfl rfl (fun P => ?_)
  refine mcall (c_isHere_205 G g l d σ tp S h hw) (fun r s1 h8 => ?_)
  obtain ⟨rfl, S1, E1⟩ := h8
  cases hk : kwS tp wFrom S with
  | false => exact And.intro (fun q => absurd rfl q) (fun _ => ⟨nar0, rfl, S1.mono rfl rfl, takS_no hk E1, fun _ => E1⟩)
  | true =>
    refine And.intro (fun _ => ⟨nar1, rfl, ((S1.mono rfl rfl).f rfl).f rfl, ?_, fun q => by cases q⟩) (fun q => absurd q (by decide))
    exact takS_yes (n := 4) hk E1 rfl
theorem c_asks_205 (tp : List Nat) (S : Pos) (h : PX tp S σ) (hw : Wd 205 wFrom σ) : MC G g l (d+4) mX6_asks [tM, .inr (.inr (some (.inl 205)))] σ (fun r t => r = none ∧ mS [2, 4, 5, 6] [] σ t ∧ PX tp (match S with
      | .ok a => askW tp wFrom a
      | .error f => .error f) t) := by
  refine MC0 tX6_asks rfl okX6_asks rfl rfl rfl rfl (fun P => ?_)
  cases S with
  | error f => exact And.intro (fun _ => ⟨rfl, mS.rf, h⟩) (fun q => absurd q (pf_bad h))
  | ok a =>
    have p2 := h.elim (fun a' h => h.2.1)
    refine And.intro (fun q => absurd p2 q) (fun _ => ?_)
    refine mcall (c_takes_205 G g l d σ tp (.ok a) h hw) (fun r s1 h8 => ?_)
    obtain ⟨rfl, S1, X1, E1⟩ := h8
    cases hk : kwS tp wFrom (.ok a) with
    | true =>
      refine And.intro (fun _ => ⟨rfl, S1.mono rfl rfl, ?_⟩) (fun q => absurd q (by decide))
      have hk0 : kw tp wFrom a = true := hk
      show PX tp (askW tp wFrom a) s1
      unfold askW
      rw [if_pos hk0]
      have : takS tp wFrom (.ok a) = .ok (skp tp (a + wFrom.length)) := if_pos hk0
      rw [this] at X1
      exact X1
    | false =>
      have hk0 : kw tp wFrom a = false := hk
      have E2 : PO tp a a s1 := E1 hk
      refine And.intro (fun q => absurd rfl q) (fun _ => ?_)
      have hl := E2.1.len
      have ha := E2.2.2.2.2.1
      refine mcall (c_fail G g l (d+2) s1 tp (.ok a) ⟨a, E2⟩ _ _ 1 a rfl E2.2.2.1 (by omega) (by omega) (by omega)) (fun r s2 h8 => ?_)
      obtain ⟨rfl, S2, X2⟩ := h8
      refine ⟨rfl, (S1.mono rfl rfl).tr (S2.mono rfl rfl), ?_⟩
      show PX tp (askW tp wFrom a) s2
      unfold askW
      rw [if_neg (by rw [hk0]; decide)]
      exact X2
set_option maxHeartbeats 1000000 in
theorem c_isHere_206 (tp : List Nat) (S : Pos) (h : PX tp S σ) (hw : Wd 206 wTo σ) : MC G g l (d+2) mX6_isHere [tM, .inr (.inr (some (.inl 206)))] σ (fun r t => r = some (iv (bI (kwS tp wTo S))) ∧ mS [2] [] σ t ∧ PE tp S t) := by
  refine MC1 tX6_isHere [12, 17, 29, 40] rfl okX6_isHere rfl rfl rfl rfl (fun P hP => ?_)
  have no : ∀ τ, kwS tp wTo S = false → mS [2] [] σ τ → PE tp S τ → P 12 [some tM, some (.inr (.inr (some (.inl 206)))), none, none] [] τ := fun τ e hS hE => hP _ _ _ _ ⟨nar0, by rw [e]; rfl, hS, hE⟩
  refine hP _ _ _ _ ?_
  cases S with
  | error f =>
    refine And.intro (fun _ => no σ rfl mS.rf h) (fun q => absurd q (pf_bad h))
  | ok a =>
    obtain ⟨a', h9⟩ := h
    refine And.intro (fun q => absurd h9.2.1 q) (fun _ => ?_)
    refine mcall (c_look G g l d σ tp a a' h9) (fun r s1 h8 => ?_)
    obtain ⟨rfl, S1, O1⟩ := h8
    have hw1 : Wd 206 wTo s1 := hw.keep S1 rfl rfl
    obtain ⟨p1, p2, p3, p4, p5, p6, e, p7, p8, p9, p10⟩ := O1
    have O1 : PO tp a a s1 := ⟨p1, p2, p3, p4, p5, p6, e, p7, p8, p9, p10⟩
    have hl := p1.len
    refine mcall (c_isLetter G g l d s1 (byI tp a)) (fun r s2 h8 => ?_)
    obtain ⟨rfl, rfl⟩ := h8
    rw [letB p1.1 a]
    cases hL : isAt isL tp a with
    | false => exact And.intro (fun _ => no s2 (by show kw tp wTo a = false; unfold kw; rw [hL]; rfl) S1 O1) (fun q => absurd rfl q)
    | true =>
      refine And.intro (fun q => absurd q (by decide)) (fun _ => And.intro (fun q => ?_) (fun q => ?_))
      · have hpr : prLD tp a = false := pr_ne p3 p7 p9 (by omega) (by omega) q
        have at17 : ∀ (m k : Nat), k + m = wEn tp a → a ≤ k → P 17 [some tM, some (.inr (.inr (some (.inl 206)))), some (iv (nI k)), none] [] s2 := by
          intro m
          have hwl : wEn tp a ≤ tp.length := endE_le isL p5
          have h3 : gI s2 200 3 = nI tp.length := p1.2
          have fin : ∀ k, k = wEn tp a → P 17 [some tM, some (.inr (.inr (some (.inl 206)))), some (iv (nI k)), none] [] s2 := by
            intro k hk
            subst hk
            have aw : a ≤ wEn tp a := endE_ge isL tp a
            have ed : nI (wEn tp a) - gI s2 200 2 = nI (wEn tp a - a) := by rw [p3]; exact nI_s1 _ _ aw
            have hsl := sub_len (tp := tp) (a := a) hwl
            have kwe : kw tp wTo a = decide (sub_ tp a (wEn tp a) = wTo) := by unfold kw; rw [hL, hpr]; rfl
            have at29 : P 29 [some tM, some (.inr (.inr (some (.inl 206)))), some (iv (nI (wEn tp a))), none] [] s2 := by
              refine hP _ _ _ _ (And.intro (fun q => ?_) (fun q => ⟨nar0, ?_, S1, O1⟩))
              · have q0 : nI (wEn tp a) - gI s2 200 2 = nI 2 := q
                rw [ed, nI_eq (by omega) (by omega)] at q0
                have at40 : ∀ (m i : Nat), i + m = 2 → (∀ j, j < i → tp[a + j]? = wTo[j]?) → P 40 [some tM, some (.inr (.inr (some (.inl 206)))), some (iv (nI (wEn tp a))), some (iv (nI i))] [] s2 := by
                  intro m
                  induction m with
                  | zero =>
                    intro i hi hall
                    refine hP _ _ _ _ (And.intro (fun _ => ⟨nar1, ?_, S1, O1⟩) (fun q => absurd (show nI 2 ≤ nI i from nI_le (by omega) (by omega)) q))
                    rw [show kwS tp wTo (.ok a) = true from ?_]
                    · rfl
                    · show kw tp wTo a = true
                      rw [kwe]
                      refine decide_eq_true (List.ext_getElem? (fun j => ?_))
                      by_cases hj : j < 2
                      · rw [sub_get (by omega)]; exact hall j (by omega)
                      · rw [List.getElem?_eq_none (by omega), List.getElem?_eq_none (show wTo.length ≤ j by show 2 ≤ j; omega)]
                  | succ m ih =>
                    intro i hi hall
                    have hil : a + i < tp.length := by omega
                    obtain ⟨c, hc⟩ : ∃ c, tp[a + i]? = some c := ⟨_, List.getElem?_eq_getElem hil⟩
                    obtain ⟨u, hu⟩ : ∃ u, wTo[i]? = some u := ⟨_, List.getElem?_eq_getElem (show i < wTo.length by show i < 2; omega)⟩
                    have hv := p1.1.2 _ c hc
                    have hu2 := hw1.1 i u hu
                    have ei : gI s2 200 2 + nI i = nI (a + i) := by rw [p3, nI_add]
                    have g1 : gI s2 201 (gI s2 200 2 + nI i).toNatClampNeg = nI c := by rw [ei, clN (by omega), hv.1]
                    have g2 : gI s2 206 (nI i).toNatClampNeg = nI u := by rw [clN (by omega), hu2]
                    have hub := hw1.2 u (List.mem_of_getElem? hu)
                    refine hP _ _ _ _ (And.intro (fun q => absurd q (show ¬ nI 2 ≤ nI i from nI_ge (by omega) (by omega))) (fun _ => And.intro (show vp_in (gI s2 200 2 + nI i) 1600 from by rw [ei]; exact vinN (by omega) (by decide)) (And.intro (show vp_in (nI i) 2 from vinN (by omega) (by decide)) (And.intro (fun q => ?_) (fun q => ⟨nar0, ?_, S1, O1⟩)))))
                    · have q1 : gI s2 201 (gI s2 200 2 + nI i).toNatClampNeg = gI s2 206 (nI i).toNatClampNeg := q
                      rw [g1, g2, nI_eq (by omega) (by omega)] at q1
                      show P 40 [some tM, some (.inr (.inr (some (.inl 206)))), some (iv (nI (wEn tp a))), some (iv (nI i + nI 1))] [] s2
                      rw [nI_add]
                      refine ih (i+1) (by omega) (fun j hj => ?_)
                      by_cases ej : j = i
                      · rw [ej, hc, hu, q1]
                      · exact hall j (by omega)
                    · have q1 : ¬ gI s2 201 (gI s2 200 2 + nI i).toNatClampNeg = gI s2 206 (nI i).toNatClampNeg := q
                      rw [g1, g2, nI_eq (by omega) (by omega)] at q1
                      rw [show kwS tp wTo (.ok a) = false from ?_]
                      · rfl
                      · show kw tp wTo a = false
                        rw [kwe]
                        refine decide_eq_false (fun e9 => q1 ?_)
                        have := sub_get (tp := tp) (a := a) (b := wEn tp a) (i := i) (by omega)
                        rw [e9, hc, hu] at this
                        cases this
                        rfl
                exact at40 2 0 (by omega) (fun j hj => absurd hj (Nat.not_lt_zero _))
              · have q0 : ¬ nI (wEn tp a) - gI s2 200 2 = nI 2 := q
                rw [ed, nI_eq (by omega) (by omega)] at q0
                rw [show kwS tp wTo (.ok a) = false from ?_]
                · rfl
                · show kw tp wTo a = false
                  rw [kwe]
                  refine decide_eq_false (fun e9 => q0 ?_)
                  rw [← hsl, e9]
                  rfl
            refine hP _ _ _ _ (And.intro (fun _ => at29) (fun q => ?_))
            have q0 : ¬ gI s2 200 3 ≤ nI (wEn tp a) := q
            rw [h3, nI_leI (by omega) (by omega)] at q0
            obtain ⟨c, hc⟩ : ∃ c, tp[wEn tp a]? = some c := ⟨_, List.getElem?_eq_getElem (by omega)⟩
            have hv := p1.1.2 _ c hc
            refine And.intro (show vp_in (nI (wEn tp a)) 1600 from vinN (by omega) (by decide)) ?_
            refine mcall (c_isLetter G g l d s2 _) (fun r s3 h8 => ?_)
            obtain ⟨rfl, rfl⟩ := h8
            rw [show gI s3 201 (nI (wEn tp a)).toNatClampNeg = byI tp (wEn tp a) by rw [clN (by omega), hv.1]; unfold byI; rw [hc]]
            rw [letB p1.1, show isAt isL tp (wEn tp a) = false from endE_end isL tp a]
            exact And.intro (fun _ => at29) (fun q => absurd rfl q)
          induction m with
          | zero => intro k hk hak; exact fin k (by omega)
          | succ m ih =>
            intro k hk hak
            have hkL : isAt isL tp k = true := endE_in (p := isL) (a := a) hak (by show k < wEn tp a; omega)
            have hkl := isAt_lt hkL
            obtain ⟨c, hc⟩ : ∃ c, tp[k]? = some c := ⟨_, List.getElem?_eq_getElem hkl⟩
            have hv := p1.1.2 _ c hc
            refine hP _ _ _ _ (And.intro (fun q => ?_) (fun _ => And.intro (show vp_in (nI k) 1600 from vinN (by omega) (by decide)) ?_))
            · have q0 : gI s2 200 3 ≤ nI k := q
              rw [h3, nI_leI (by omega) (by omega)] at q0
              omega
            refine mcall (c_isLetter G g l d s2 _) (fun r s3 h8 => ?_)
            obtain ⟨rfl, rfl⟩ := h8
            rw [show gI s3 201 (nI k).toNatClampNeg = byI tp k by rw [clN (by omega), hv.1]; unfold byI; rw [hc]]
            rw [letB p1.1, hkL]
            refine And.intro (fun q => absurd q (by decide)) (fun _ => ?_)
            show P 17 [some tM, some (.inr (.inr (some (.inl 206)))), some (iv (nI k + nI 1)), none] [] s3
            rw [nI_add]
            exact ih (k+1) (by omega) (by omega)
        show P 17 [some tM, some (.inr (.inr (some (.inl 206)))), some (iv (gI s2 200 2)), none] [] s2
        rw [p3]
        exact at17 (wEn tp a - a) a (by have := endE_ge isL tp a; show a + (endE isL tp a - a) = endE isL tp a; omega) (Nat.le_refl _)
      · have hpr : prLD tp a = true := pr_eq p3 p7 p9 (by omega) (by omega) q
        exact no s2 (by show kw tp wTo a = false; unfold kw; rw [hL, hpr]; rfl) S1 O1
theorem c_takes_206 (tp : List Nat) (S : Pos) (h : PX tp S σ) (hw : Wd 206 wTo σ) : MC G g l (d+3) mX6_takes [tM, .inr (.inr (some (.inl 206)))] σ (fun r t => r = some (iv (bI (kwS tp wTo S))) ∧ mS [2, 4] [] σ t ∧ PX tp (takS tp wTo S) t ∧ (kwS tp wTo S = false → PE tp S t)) := by
  refine MC0 tX6_takes rfl okX6_takes rfl rfl rfl rfl (fun P => ?_)
  refine mcall (c_isHere_206 G g l d σ tp S h hw) (fun r s1 h8 => ?_)
  obtain ⟨rfl, S1, E1⟩ := h8
  cases hk : kwS tp wTo S with
  | false => exact And.intro (fun q => absurd rfl q) (fun _ => ⟨nar0, rfl, S1.mono rfl rfl, takS_no hk E1, fun _ => E1⟩)
  | true =>
    refine And.intro (fun _ => ⟨nar1, rfl, ((S1.mono rfl rfl).f rfl).f rfl, ?_, fun q => by cases q⟩) (fun q => absurd q (by decide))
    exact takS_yes (n := 2) hk E1 rfl
theorem c_asks_206 (tp : List Nat) (S : Pos) (h : PX tp S σ) (hw : Wd 206 wTo σ) : MC G g l (d+4) mX6_asks [tM, .inr (.inr (some (.inl 206)))] σ (fun r t => r = none ∧ mS [2, 4, 5, 6] [] σ t ∧ PX tp (match S with
      | .ok a => askW tp wTo a
      | .error f => .error f) t) := by
  refine MC0 tX6_asks rfl okX6_asks rfl rfl rfl rfl (fun P => ?_)
  cases S with
  | error f => exact And.intro (fun _ => ⟨rfl, mS.rf, h⟩) (fun q => absurd q (pf_bad h))
  | ok a =>
    have p2 := h.elim (fun a' h => h.2.1)
    refine And.intro (fun q => absurd p2 q) (fun _ => ?_)
    refine mcall (c_takes_206 G g l d σ tp (.ok a) h hw) (fun r s1 h8 => ?_)
    obtain ⟨rfl, S1, X1, E1⟩ := h8
    cases hk : kwS tp wTo (.ok a) with
    | true =>
      refine And.intro (fun _ => ⟨rfl, S1.mono rfl rfl, ?_⟩) (fun q => absurd q (by decide))
      have hk0 : kw tp wTo a = true := hk
      show PX tp (askW tp wTo a) s1
      unfold askW
      rw [if_pos hk0]
      have : takS tp wTo (.ok a) = .ok (skp tp (a + wTo.length)) := if_pos hk0
      rw [this] at X1
      exact X1
    | false =>
      have hk0 : kw tp wTo a = false := hk
      have E2 : PO tp a a s1 := E1 hk
      refine And.intro (fun q => absurd rfl q) (fun _ => ?_)
      have hl := E2.1.len
      have ha := E2.2.2.2.2.1
      refine mcall (c_fail G g l (d+2) s1 tp (.ok a) ⟨a, E2⟩ _ _ 1 a rfl E2.2.2.1 (by omega) (by omega) (by omega)) (fun r s2 h8 => ?_)
      obtain ⟨rfl, S2, X2⟩ := h8
      refine ⟨rfl, (S1.mono rfl rfl).tr (S2.mono rfl rfl), ?_⟩
      show PX tp (askW tp wTo a) s2
      unfold askW
      rw [if_neg (by rw [hk0]; decide)]
      exact X2
set_option maxHeartbeats 1000000 in
theorem c_isHere_207 (tp : List Nat) (S : Pos) (h : PX tp S σ) (hw : Wd 207 wTakes σ) : MC G g l (d+2) mX6_isHere [tM, .inr (.inr (some (.inl 207)))] σ (fun r t => r = some (iv (bI (kwS tp wTakes S))) ∧ mS [2] [] σ t ∧ PE tp S t) := by
  refine MC1 tX6_isHere [12, 17, 29, 40] rfl okX6_isHere rfl rfl rfl rfl (fun P hP => ?_)
  have no : ∀ τ, kwS tp wTakes S = false → mS [2] [] σ τ → PE tp S τ → P 12 [some tM, some (.inr (.inr (some (.inl 207)))), none, none] [] τ := fun τ e hS hE => hP _ _ _ _ ⟨nar0, by rw [e]; rfl, hS, hE⟩
  refine hP _ _ _ _ ?_
  cases S with
  | error f =>
    refine And.intro (fun _ => no σ rfl mS.rf h) (fun q => absurd q (pf_bad h))
  | ok a =>
    obtain ⟨a', h9⟩ := h
    refine And.intro (fun q => absurd h9.2.1 q) (fun _ => ?_)
    refine mcall (c_look G g l d σ tp a a' h9) (fun r s1 h8 => ?_)
    obtain ⟨rfl, S1, O1⟩ := h8
    have hw1 : Wd 207 wTakes s1 := hw.keep S1 rfl rfl
    obtain ⟨p1, p2, p3, p4, p5, p6, e, p7, p8, p9, p10⟩ := O1
    have O1 : PO tp a a s1 := ⟨p1, p2, p3, p4, p5, p6, e, p7, p8, p9, p10⟩
    have hl := p1.len
    refine mcall (c_isLetter G g l d s1 (byI tp a)) (fun r s2 h8 => ?_)
    obtain ⟨rfl, rfl⟩ := h8
    rw [letB p1.1 a]
    cases hL : isAt isL tp a with
    | false => exact And.intro (fun _ => no s2 (by show kw tp wTakes a = false; unfold kw; rw [hL]; rfl) S1 O1) (fun q => absurd rfl q)
    | true =>
      refine And.intro (fun q => absurd q (by decide)) (fun _ => And.intro (fun q => ?_) (fun q => ?_))
      · have hpr : prLD tp a = false := pr_ne p3 p7 p9 (by omega) (by omega) q
        have at17 : ∀ (m k : Nat), k + m = wEn tp a → a ≤ k → P 17 [some tM, some (.inr (.inr (some (.inl 207)))), some (iv (nI k)), none] [] s2 := by
          intro m
          have hwl : wEn tp a ≤ tp.length := endE_le isL p5
          have h3 : gI s2 200 3 = nI tp.length := p1.2
          have fin : ∀ k, k = wEn tp a → P 17 [some tM, some (.inr (.inr (some (.inl 207)))), some (iv (nI k)), none] [] s2 := by
            intro k hk
            subst hk
            have aw : a ≤ wEn tp a := endE_ge isL tp a
            have ed : nI (wEn tp a) - gI s2 200 2 = nI (wEn tp a - a) := by rw [p3]; exact nI_s1 _ _ aw
            have hsl := sub_len (tp := tp) (a := a) hwl
            have kwe : kw tp wTakes a = decide (sub_ tp a (wEn tp a) = wTakes) := by unfold kw; rw [hL, hpr]; rfl
            have at29 : P 29 [some tM, some (.inr (.inr (some (.inl 207)))), some (iv (nI (wEn tp a))), none] [] s2 := by
              refine hP _ _ _ _ (And.intro (fun q => ?_) (fun q => ⟨nar0, ?_, S1, O1⟩))
              · have q0 : nI (wEn tp a) - gI s2 200 2 = nI 5 := q
                rw [ed, nI_eq (by omega) (by omega)] at q0
                have at40 : ∀ (m i : Nat), i + m = 5 → (∀ j, j < i → tp[a + j]? = wTakes[j]?) → P 40 [some tM, some (.inr (.inr (some (.inl 207)))), some (iv (nI (wEn tp a))), some (iv (nI i))] [] s2 := by
                  intro m
                  induction m with
                  | zero =>
                    intro i hi hall
                    refine hP _ _ _ _ (And.intro (fun _ => ⟨nar1, ?_, S1, O1⟩) (fun q => absurd (show nI 5 ≤ nI i from nI_le (by omega) (by omega)) q))
                    rw [show kwS tp wTakes (.ok a) = true from ?_]
                    · rfl
                    · show kw tp wTakes a = true
                      rw [kwe]
                      refine decide_eq_true (List.ext_getElem? (fun j => ?_))
                      by_cases hj : j < 5
                      · rw [sub_get (by omega)]; exact hall j (by omega)
                      · rw [List.getElem?_eq_none (by omega), List.getElem?_eq_none (show wTakes.length ≤ j by show 5 ≤ j; omega)]
                  | succ m ih =>
                    intro i hi hall
                    have hil : a + i < tp.length := by omega
                    obtain ⟨c, hc⟩ : ∃ c, tp[a + i]? = some c := ⟨_, List.getElem?_eq_getElem hil⟩
                    obtain ⟨u, hu⟩ : ∃ u, wTakes[i]? = some u := ⟨_, List.getElem?_eq_getElem (show i < wTakes.length by show i < 5; omega)⟩
                    have hv := p1.1.2 _ c hc
                    have hu2 := hw1.1 i u hu
                    have ei : gI s2 200 2 + nI i = nI (a + i) := by rw [p3, nI_add]
                    have g1 : gI s2 201 (gI s2 200 2 + nI i).toNatClampNeg = nI c := by rw [ei, clN (by omega), hv.1]
                    have g2 : gI s2 207 (nI i).toNatClampNeg = nI u := by rw [clN (by omega), hu2]
                    have hub := hw1.2 u (List.mem_of_getElem? hu)
                    refine hP _ _ _ _ (And.intro (fun q => absurd q (show ¬ nI 5 ≤ nI i from nI_ge (by omega) (by omega))) (fun _ => And.intro (show vp_in (gI s2 200 2 + nI i) 1600 from by rw [ei]; exact vinN (by omega) (by decide)) (And.intro (show vp_in (nI i) 5 from vinN (by omega) (by decide)) (And.intro (fun q => ?_) (fun q => ⟨nar0, ?_, S1, O1⟩)))))
                    · have q1 : gI s2 201 (gI s2 200 2 + nI i).toNatClampNeg = gI s2 207 (nI i).toNatClampNeg := q
                      rw [g1, g2, nI_eq (by omega) (by omega)] at q1
                      show P 40 [some tM, some (.inr (.inr (some (.inl 207)))), some (iv (nI (wEn tp a))), some (iv (nI i + nI 1))] [] s2
                      rw [nI_add]
                      refine ih (i+1) (by omega) (fun j hj => ?_)
                      by_cases ej : j = i
                      · rw [ej, hc, hu, q1]
                      · exact hall j (by omega)
                    · have q1 : ¬ gI s2 201 (gI s2 200 2 + nI i).toNatClampNeg = gI s2 207 (nI i).toNatClampNeg := q
                      rw [g1, g2, nI_eq (by omega) (by omega)] at q1
                      rw [show kwS tp wTakes (.ok a) = false from ?_]
                      · rfl
                      · show kw tp wTakes a = false
                        rw [kwe]
                        refine decide_eq_false (fun e9 => q1 ?_)
                        have := sub_get (tp := tp) (a := a) (b := wEn tp a) (i := i) (by omega)
                        rw [e9, hc, hu] at this
                        cases this
                        rfl
                exact at40 5 0 (by omega) (fun j hj => absurd hj (Nat.not_lt_zero _))
              · have q0 : ¬ nI (wEn tp a) - gI s2 200 2 = nI 5 := q
                rw [ed, nI_eq (by omega) (by omega)] at q0
                rw [show kwS tp wTakes (.ok a) = false from ?_]
                · rfl
                · show kw tp wTakes a = false
                  rw [kwe]
                  refine decide_eq_false (fun e9 => q0 ?_)
                  rw [← hsl, e9]
                  rfl
            refine hP _ _ _ _ (And.intro (fun _ => at29) (fun q => ?_))
            have q0 : ¬ gI s2 200 3 ≤ nI (wEn tp a) := q
            rw [h3, nI_leI (by omega) (by omega)] at q0
            obtain ⟨c, hc⟩ : ∃ c, tp[wEn tp a]? = some c := ⟨_, List.getElem?_eq_getElem (by omega)⟩
            have hv := p1.1.2 _ c hc
            refine And.intro (show vp_in (nI (wEn tp a)) 1600 from vinN (by omega) (by decide)) ?_
            refine mcall (c_isLetter G g l d s2 _) (fun r s3 h8 => ?_)
            obtain ⟨rfl, rfl⟩ := h8
            rw [show gI s3 201 (nI (wEn tp a)).toNatClampNeg = byI tp (wEn tp a) by rw [clN (by omega), hv.1]; unfold byI; rw [hc]]
            rw [letB p1.1, show isAt isL tp (wEn tp a) = false from endE_end isL tp a]
            exact And.intro (fun _ => at29) (fun q => absurd rfl q)
          induction m with
          | zero => intro k hk hak; exact fin k (by omega)
          | succ m ih =>
            intro k hk hak
            have hkL : isAt isL tp k = true := endE_in (p := isL) (a := a) hak (by show k < wEn tp a; omega)
            have hkl := isAt_lt hkL
            obtain ⟨c, hc⟩ : ∃ c, tp[k]? = some c := ⟨_, List.getElem?_eq_getElem hkl⟩
            have hv := p1.1.2 _ c hc
            refine hP _ _ _ _ (And.intro (fun q => ?_) (fun _ => And.intro (show vp_in (nI k) 1600 from vinN (by omega) (by decide)) ?_))
            · have q0 : gI s2 200 3 ≤ nI k := q
              rw [h3, nI_leI (by omega) (by omega)] at q0
              omega
            refine mcall (c_isLetter G g l d s2 _) (fun r s3 h8 => ?_)
            obtain ⟨rfl, rfl⟩ := h8
            rw [show gI s3 201 (nI k).toNatClampNeg = byI tp k by rw [clN (by omega), hv.1]; unfold byI; rw [hc]]
            rw [letB p1.1, hkL]
            refine And.intro (fun q => absurd q (by decide)) (fun _ => ?_)
            show P 17 [some tM, some (.inr (.inr (some (.inl 207)))), some (iv (nI k + nI 1)), none] [] s3
            rw [nI_add]
            exact ih (k+1) (by omega) (by omega)
        show P 17 [some tM, some (.inr (.inr (some (.inl 207)))), some (iv (gI s2 200 2)), none] [] s2
        rw [p3]
        exact at17 (wEn tp a - a) a (by have := endE_ge isL tp a; show a + (endE isL tp a - a) = endE isL tp a; omega) (Nat.le_refl _)
      · have hpr : prLD tp a = true := pr_eq p3 p7 p9 (by omega) (by omega) q
        exact no s2 (by show kw tp wTakes a = false; unfold kw; rw [hL, hpr]; rfl) S1 O1
theorem c_takes_207 (tp : List Nat) (S : Pos) (h : PX tp S σ) (hw : Wd 207 wTakes σ) : MC G g l (d+3) mX6_takes [tM, .inr (.inr (some (.inl 207)))] σ (fun r t => r = some (iv (bI (kwS tp wTakes S))) ∧ mS [2, 4] [] σ t ∧ PX tp (takS tp wTakes S) t ∧ (kwS tp wTakes S = false → PE tp S t)) := by
  refine MC0 tX6_takes rfl okX6_takes rfl rfl rfl rfl (fun P => ?_)
  refine mcall (c_isHere_207 G g l d σ tp S h hw) (fun r s1 h8 => ?_)
  obtain ⟨rfl, S1, E1⟩ := h8
  cases hk : kwS tp wTakes S with
  | false => exact And.intro (fun q => absurd rfl q) (fun _ => ⟨nar0, rfl, S1.mono rfl rfl, takS_no hk E1, fun _ => E1⟩)
  | true =>
    refine And.intro (fun _ => ⟨nar1, rfl, ((S1.mono rfl rfl).f rfl).f rfl, ?_, fun q => by cases q⟩) (fun q => absurd q (by decide))
    exact takS_yes (n := 5) hk E1 rfl
theorem c_asks_207 (tp : List Nat) (S : Pos) (h : PX tp S σ) (hw : Wd 207 wTakes σ) : MC G g l (d+4) mX6_asks [tM, .inr (.inr (some (.inl 207)))] σ (fun r t => r = none ∧ mS [2, 4, 5, 6] [] σ t ∧ PX tp (match S with
      | .ok a => askW tp wTakes a
      | .error f => .error f) t) := by
  refine MC0 tX6_asks rfl okX6_asks rfl rfl rfl rfl (fun P => ?_)
  cases S with
  | error f => exact And.intro (fun _ => ⟨rfl, mS.rf, h⟩) (fun q => absurd q (pf_bad h))
  | ok a =>
    have p2 := h.elim (fun a' h => h.2.1)
    refine And.intro (fun q => absurd p2 q) (fun _ => ?_)
    refine mcall (c_takes_207 G g l d σ tp (.ok a) h hw) (fun r s1 h8 => ?_)
    obtain ⟨rfl, S1, X1, E1⟩ := h8
    cases hk : kwS tp wTakes (.ok a) with
    | true =>
      refine And.intro (fun _ => ⟨rfl, S1.mono rfl rfl, ?_⟩) (fun q => absurd q (by decide))
      have hk0 : kw tp wTakes a = true := hk
      show PX tp (askW tp wTakes a) s1
      unfold askW
      rw [if_pos hk0]
      have : takS tp wTakes (.ok a) = .ok (skp tp (a + wTakes.length)) := if_pos hk0
      rw [this] at X1
      exact X1
    | false =>
      have hk0 : kw tp wTakes a = false := hk
      have E2 : PO tp a a s1 := E1 hk
      refine And.intro (fun q => absurd rfl q) (fun _ => ?_)
      have hl := E2.1.len
      have ha := E2.2.2.2.2.1
      refine mcall (c_fail G g l (d+2) s1 tp (.ok a) ⟨a, E2⟩ _ _ 1 a rfl E2.2.2.1 (by omega) (by omega) (by omega)) (fun r s2 h8 => ?_)
      obtain ⟨rfl, S2, X2⟩ := h8
      refine ⟨rfl, (S1.mono rfl rfl).tr (S2.mono rfl rfl), ?_⟩
      show PX tp (askW tp wTakes a) s2
      unfold askW
      rw [if_neg (by rw [hk0]; decide)]
      exact X2
set_option maxHeartbeats 1000000 in
theorem c_isHere_208 (tp : List Nat) (S : Pos) (h : PX tp S σ) (hw : Wd 208 wRound σ) : MC G g l (d+2) mX6_isHere [tM, .inr (.inr (some (.inl 208)))] σ (fun r t => r = some (iv (bI (kwS tp wRound S))) ∧ mS [2] [] σ t ∧ PE tp S t) := by
  refine MC1 tX6_isHere [12, 17, 29, 40] rfl okX6_isHere rfl rfl rfl rfl (fun P hP => ?_)
  have no : ∀ τ, kwS tp wRound S = false → mS [2] [] σ τ → PE tp S τ → P 12 [some tM, some (.inr (.inr (some (.inl 208)))), none, none] [] τ := fun τ e hS hE => hP _ _ _ _ ⟨nar0, by rw [e]; rfl, hS, hE⟩
  refine hP _ _ _ _ ?_
  cases S with
  | error f =>
    refine And.intro (fun _ => no σ rfl mS.rf h) (fun q => absurd q (pf_bad h))
  | ok a =>
    obtain ⟨a', h9⟩ := h
    refine And.intro (fun q => absurd h9.2.1 q) (fun _ => ?_)
    refine mcall (c_look G g l d σ tp a a' h9) (fun r s1 h8 => ?_)
    obtain ⟨rfl, S1, O1⟩ := h8
    have hw1 : Wd 208 wRound s1 := hw.keep S1 rfl rfl
    obtain ⟨p1, p2, p3, p4, p5, p6, e, p7, p8, p9, p10⟩ := O1
    have O1 : PO tp a a s1 := ⟨p1, p2, p3, p4, p5, p6, e, p7, p8, p9, p10⟩
    have hl := p1.len
    refine mcall (c_isLetter G g l d s1 (byI tp a)) (fun r s2 h8 => ?_)
    obtain ⟨rfl, rfl⟩ := h8
    rw [letB p1.1 a]
    cases hL : isAt isL tp a with
    | false => exact And.intro (fun _ => no s2 (by show kw tp wRound a = false; unfold kw; rw [hL]; rfl) S1 O1) (fun q => absurd rfl q)
    | true =>
      refine And.intro (fun q => absurd q (by decide)) (fun _ => And.intro (fun q => ?_) (fun q => ?_))
      · have hpr : prLD tp a = false := pr_ne p3 p7 p9 (by omega) (by omega) q
        have at17 : ∀ (m k : Nat), k + m = wEn tp a → a ≤ k → P 17 [some tM, some (.inr (.inr (some (.inl 208)))), some (iv (nI k)), none] [] s2 := by
          intro m
          have hwl : wEn tp a ≤ tp.length := endE_le isL p5
          have h3 : gI s2 200 3 = nI tp.length := p1.2
          have fin : ∀ k, k = wEn tp a → P 17 [some tM, some (.inr (.inr (some (.inl 208)))), some (iv (nI k)), none] [] s2 := by
            intro k hk
            subst hk
            have aw : a ≤ wEn tp a := endE_ge isL tp a
            have ed : nI (wEn tp a) - gI s2 200 2 = nI (wEn tp a - a) := by rw [p3]; exact nI_s1 _ _ aw
            have hsl := sub_len (tp := tp) (a := a) hwl
            have kwe : kw tp wRound a = decide (sub_ tp a (wEn tp a) = wRound) := by unfold kw; rw [hL, hpr]; rfl
            have at29 : P 29 [some tM, some (.inr (.inr (some (.inl 208)))), some (iv (nI (wEn tp a))), none] [] s2 := by
              refine hP _ _ _ _ (And.intro (fun q => ?_) (fun q => ⟨nar0, ?_, S1, O1⟩))
              · have q0 : nI (wEn tp a) - gI s2 200 2 = nI 5 := q
                rw [ed, nI_eq (by omega) (by omega)] at q0
                have at40 : ∀ (m i : Nat), i + m = 5 → (∀ j, j < i → tp[a + j]? = wRound[j]?) → P 40 [some tM, some (.inr (.inr (some (.inl 208)))), some (iv (nI (wEn tp a))), some (iv (nI i))] [] s2 := by
                  intro m
                  induction m with
                  | zero =>
                    intro i hi hall
                    refine hP _ _ _ _ (And.intro (fun _ => ⟨nar1, ?_, S1, O1⟩) (fun q => absurd (show nI 5 ≤ nI i from nI_le (by omega) (by omega)) q))
                    rw [show kwS tp wRound (.ok a) = true from ?_]
                    · rfl
                    · show kw tp wRound a = true
                      rw [kwe]
                      refine decide_eq_true (List.ext_getElem? (fun j => ?_))
                      by_cases hj : j < 5
                      · rw [sub_get (by omega)]; exact hall j (by omega)
                      · rw [List.getElem?_eq_none (by omega), List.getElem?_eq_none (show wRound.length ≤ j by show 5 ≤ j; omega)]
                  | succ m ih =>
                    intro i hi hall
                    have hil : a + i < tp.length := by omega
                    obtain ⟨c, hc⟩ : ∃ c, tp[a + i]? = some c := ⟨_, List.getElem?_eq_getElem hil⟩
                    obtain ⟨u, hu⟩ : ∃ u, wRound[i]? = some u := ⟨_, List.getElem?_eq_getElem (show i < wRound.length by show i < 5; omega)⟩
                    have hv := p1.1.2 _ c hc
                    have hu2 := hw1.1 i u hu
                    have ei : gI s2 200 2 + nI i = nI (a + i) := by rw [p3, nI_add]
                    have g1 : gI s2 201 (gI s2 200 2 + nI i).toNatClampNeg = nI c := by rw [ei, clN (by omega), hv.1]
                    have g2 : gI s2 208 (nI i).toNatClampNeg = nI u := by rw [clN (by omega), hu2]
                    have hub := hw1.2 u (List.mem_of_getElem? hu)
                    refine hP _ _ _ _ (And.intro (fun q => absurd q (show ¬ nI 5 ≤ nI i from nI_ge (by omega) (by omega))) (fun _ => And.intro (show vp_in (gI s2 200 2 + nI i) 1600 from by rw [ei]; exact vinN (by omega) (by decide)) (And.intro (show vp_in (nI i) 5 from vinN (by omega) (by decide)) (And.intro (fun q => ?_) (fun q => ⟨nar0, ?_, S1, O1⟩)))))
                    · have q1 : gI s2 201 (gI s2 200 2 + nI i).toNatClampNeg = gI s2 208 (nI i).toNatClampNeg := q
                      rw [g1, g2, nI_eq (by omega) (by omega)] at q1
                      show P 40 [some tM, some (.inr (.inr (some (.inl 208)))), some (iv (nI (wEn tp a))), some (iv (nI i + nI 1))] [] s2
                      rw [nI_add]
                      refine ih (i+1) (by omega) (fun j hj => ?_)
                      by_cases ej : j = i
                      · rw [ej, hc, hu, q1]
                      · exact hall j (by omega)
                    · have q1 : ¬ gI s2 201 (gI s2 200 2 + nI i).toNatClampNeg = gI s2 208 (nI i).toNatClampNeg := q
                      rw [g1, g2, nI_eq (by omega) (by omega)] at q1
                      rw [show kwS tp wRound (.ok a) = false from ?_]
                      · rfl
                      · show kw tp wRound a = false
                        rw [kwe]
                        refine decide_eq_false (fun e9 => q1 ?_)
                        have := sub_get (tp := tp) (a := a) (b := wEn tp a) (i := i) (by omega)
                        rw [e9, hc, hu] at this
                        cases this
                        rfl
                exact at40 5 0 (by omega) (fun j hj => absurd hj (Nat.not_lt_zero _))
              · have q0 : ¬ nI (wEn tp a) - gI s2 200 2 = nI 5 := q
                rw [ed, nI_eq (by omega) (by omega)] at q0
                rw [show kwS tp wRound (.ok a) = false from ?_]
                · rfl
                · show kw tp wRound a = false
                  rw [kwe]
                  refine decide_eq_false (fun e9 => q0 ?_)
                  rw [← hsl, e9]
                  rfl
            refine hP _ _ _ _ (And.intro (fun _ => at29) (fun q => ?_))
            have q0 : ¬ gI s2 200 3 ≤ nI (wEn tp a) := q
            rw [h3, nI_leI (by omega) (by omega)] at q0
            obtain ⟨c, hc⟩ : ∃ c, tp[wEn tp a]? = some c := ⟨_, List.getElem?_eq_getElem (by omega)⟩
            have hv := p1.1.2 _ c hc
            refine And.intro (show vp_in (nI (wEn tp a)) 1600 from vinN (by omega) (by decide)) ?_
            refine mcall (c_isLetter G g l d s2 _) (fun r s3 h8 => ?_)
            obtain ⟨rfl, rfl⟩ := h8
            rw [show gI s3 201 (nI (wEn tp a)).toNatClampNeg = byI tp (wEn tp a) by rw [clN (by omega), hv.1]; unfold byI; rw [hc]]
            rw [letB p1.1, show isAt isL tp (wEn tp a) = false from endE_end isL tp a]
            exact And.intro (fun _ => at29) (fun q => absurd rfl q)
          induction m with
          | zero => intro k hk hak; exact fin k (by omega)
          | succ m ih =>
            intro k hk hak
            have hkL : isAt isL tp k = true := endE_in (p := isL) (a := a) hak (by show k < wEn tp a; omega)
            have hkl := isAt_lt hkL
            obtain ⟨c, hc⟩ : ∃ c, tp[k]? = some c := ⟨_, List.getElem?_eq_getElem hkl⟩
            have hv := p1.1.2 _ c hc
            refine hP _ _ _ _ (And.intro (fun q => ?_) (fun _ => And.intro (show vp_in (nI k) 1600 from vinN (by omega) (by decide)) ?_))
            · have q0 : gI s2 200 3 ≤ nI k := q
              rw [h3, nI_leI (by omega) (by omega)] at q0
              omega
            refine mcall (c_isLetter G g l d s2 _) (fun r s3 h8 => ?_)
            obtain ⟨rfl, rfl⟩ := h8
            rw [show gI s3 201 (nI k).toNatClampNeg = byI tp k by rw [clN (by omega), hv.1]; unfold byI; rw [hc]]
            rw [letB p1.1, hkL]
            refine And.intro (fun q => absurd q (by decide)) (fun _ => ?_)
            show P 17 [some tM, some (.inr (.inr (some (.inl 208)))), some (iv (nI k + nI 1)), none] [] s3
            rw [nI_add]
            exact ih (k+1) (by omega) (by omega)
        show P 17 [some tM, some (.inr (.inr (some (.inl 208)))), some (iv (gI s2 200 2)), none] [] s2
        rw [p3]
        exact at17 (wEn tp a - a) a (by have := endE_ge isL tp a; show a + (endE isL tp a - a) = endE isL tp a; omega) (Nat.le_refl _)
      · have hpr : prLD tp a = true := pr_eq p3 p7 p9 (by omega) (by omega) q
        exact no s2 (by show kw tp wRound a = false; unfold kw; rw [hL, hpr]; rfl) S1 O1
theorem c_takes_208 (tp : List Nat) (S : Pos) (h : PX tp S σ) (hw : Wd 208 wRound σ) : MC G g l (d+3) mX6_takes [tM, .inr (.inr (some (.inl 208)))] σ (fun r t => r = some (iv (bI (kwS tp wRound S))) ∧ mS [2, 4] [] σ t ∧ PX tp (takS tp wRound S) t ∧ (kwS tp wRound S = false → PE tp S t)) := by
  refine MC0 tX6_takes rfl okX6_takes rfl rfl rfl rfl (fun P => ?_)
  refine mcall (c_isHere_208 G g l d σ tp S h hw) (fun r s1 h8 => ?_)
  obtain ⟨rfl, S1, E1⟩ := h8
  cases hk : kwS tp wRound S with
  | false => exact And.intro (fun q => absurd rfl q) (fun _ => ⟨nar0, rfl, S1.mono rfl rfl, takS_no hk E1, fun _ => E1⟩)
  | true =>
    refine And.intro (fun _ => ⟨nar1, rfl, ((S1.mono rfl rfl).f rfl).f rfl, ?_, fun q => by cases q⟩) (fun q => absurd q (by decide))
    exact takS_yes (n := 5) hk E1 rfl
theorem c_asks_208 (tp : List Nat) (S : Pos) (h : PX tp S σ) (hw : Wd 208 wRound σ) : MC G g l (d+4) mX6_asks [tM, .inr (.inr (some (.inl 208)))] σ (fun r t => r = none ∧ mS [2, 4, 5, 6] [] σ t ∧ PX tp (match S with
      | .ok a => askW tp wRound a
      | .error f => .error f) t) := by
  refine MC0 tX6_asks rfl okX6_asks rfl rfl rfl rfl (fun P => ?_)
  cases S with
  | error f => exact And.intro (fun _ => ⟨rfl, mS.rf, h⟩) (fun q => absurd q (pf_bad h))
  | ok a =>
    have p2 := h.elim (fun a' h => h.2.1)
    refine And.intro (fun q => absurd p2 q) (fun _ => ?_)
    refine mcall (c_takes_208 G g l d σ tp (.ok a) h hw) (fun r s1 h8 => ?_)
    obtain ⟨rfl, S1, X1, E1⟩ := h8
    cases hk : kwS tp wRound (.ok a) with
    | true =>
      refine And.intro (fun _ => ⟨rfl, S1.mono rfl rfl, ?_⟩) (fun q => absurd q (by decide))
      have hk0 : kw tp wRound a = true := hk
      show PX tp (askW tp wRound a) s1
      unfold askW
      rw [if_pos hk0]
      have : takS tp wRound (.ok a) = .ok (skp tp (a + wRound.length)) := if_pos hk0
      rw [this] at X1
      exact X1
    | false =>
      have hk0 : kw tp wRound a = false := hk
      have E2 : PO tp a a s1 := E1 hk
      refine And.intro (fun q => absurd rfl q) (fun _ => ?_)
      have hl := E2.1.len
      have ha := E2.2.2.2.2.1
      refine mcall (c_fail G g l (d+2) s1 tp (.ok a) ⟨a, E2⟩ _ _ 1 a rfl E2.2.2.1 (by omega) (by omega) (by omega)) (fun r s2 h8 => ?_)
      obtain ⟨rfl, S2, X2⟩ := h8
      refine ⟨rfl, (S1.mono rfl rfl).tr (S2.mono rfl rfl), ?_⟩
      show PX tp (askW tp wRound a) s2
      unfold askW
      rw [if_neg (by rw [hk0]; decide)]
      exact X2
set_option maxHeartbeats 1000000 in
theorem c_isHere_209 (tp : List Nat) (S : Pos) (h : PX tp S σ) (hw : Wd 209 wShift σ) : MC G g l (d+2) mX6_isHere [tM, .inr (.inr (some (.inl 209)))] σ (fun r t => r = some (iv (bI (kwS tp wShift S))) ∧ mS [2] [] σ t ∧ PE tp S t) := by
  refine MC1 tX6_isHere [12, 17, 29, 40] rfl okX6_isHere rfl rfl rfl rfl (fun P hP => ?_)
  have no : ∀ τ, kwS tp wShift S = false → mS [2] [] σ τ → PE tp S τ → P 12 [some tM, some (.inr (.inr (some (.inl 209)))), none, none] [] τ := fun τ e hS hE => hP _ _ _ _ ⟨nar0, by rw [e]; rfl, hS, hE⟩
  refine hP _ _ _ _ ?_
  cases S with
  | error f =>
    refine And.intro (fun _ => no σ rfl mS.rf h) (fun q => absurd q (pf_bad h))
  | ok a =>
    obtain ⟨a', h9⟩ := h
    refine And.intro (fun q => absurd h9.2.1 q) (fun _ => ?_)
    refine mcall (c_look G g l d σ tp a a' h9) (fun r s1 h8 => ?_)
    obtain ⟨rfl, S1, O1⟩ := h8
    have hw1 : Wd 209 wShift s1 := hw.keep S1 rfl rfl
    obtain ⟨p1, p2, p3, p4, p5, p6, e, p7, p8, p9, p10⟩ := O1
    have O1 : PO tp a a s1 := ⟨p1, p2, p3, p4, p5, p6, e, p7, p8, p9, p10⟩
    have hl := p1.len
    refine mcall (c_isLetter G g l d s1 (byI tp a)) (fun r s2 h8 => ?_)
    obtain ⟨rfl, rfl⟩ := h8
    rw [letB p1.1 a]
    cases hL : isAt isL tp a with
    | false => exact And.intro (fun _ => no s2 (by show kw tp wShift a = false; unfold kw; rw [hL]; rfl) S1 O1) (fun q => absurd rfl q)
    | true =>
      refine And.intro (fun q => absurd q (by decide)) (fun _ => And.intro (fun q => ?_) (fun q => ?_))
      · have hpr : prLD tp a = false := pr_ne p3 p7 p9 (by omega) (by omega) q
        have at17 : ∀ (m k : Nat), k + m = wEn tp a → a ≤ k → P 17 [some tM, some (.inr (.inr (some (.inl 209)))), some (iv (nI k)), none] [] s2 := by
          intro m
          have hwl : wEn tp a ≤ tp.length := endE_le isL p5
          have h3 : gI s2 200 3 = nI tp.length := p1.2
          have fin : ∀ k, k = wEn tp a → P 17 [some tM, some (.inr (.inr (some (.inl 209)))), some (iv (nI k)), none] [] s2 := by
            intro k hk
            subst hk
            have aw : a ≤ wEn tp a := endE_ge isL tp a
            have ed : nI (wEn tp a) - gI s2 200 2 = nI (wEn tp a - a) := by rw [p3]; exact nI_s1 _ _ aw
            have hsl := sub_len (tp := tp) (a := a) hwl
            have kwe : kw tp wShift a = decide (sub_ tp a (wEn tp a) = wShift) := by unfold kw; rw [hL, hpr]; rfl
            have at29 : P 29 [some tM, some (.inr (.inr (some (.inl 209)))), some (iv (nI (wEn tp a))), none] [] s2 := by
              refine hP _ _ _ _ (And.intro (fun q => ?_) (fun q => ⟨nar0, ?_, S1, O1⟩))
              · have q0 : nI (wEn tp a) - gI s2 200 2 = nI 5 := q
                rw [ed, nI_eq (by omega) (by omega)] at q0
                have at40 : ∀ (m i : Nat), i + m = 5 → (∀ j, j < i → tp[a + j]? = wShift[j]?) → P 40 [some tM, some (.inr (.inr (some (.inl 209)))), some (iv (nI (wEn tp a))), some (iv (nI i))] [] s2 := by
                  intro m
                  induction m with
                  | zero =>
                    intro i hi hall
                    refine hP _ _ _ _ (And.intro (fun _ => ⟨nar1, ?_, S1, O1⟩) (fun q => absurd (show nI 5 ≤ nI i from nI_le (by omega) (by omega)) q))
                    rw [show kwS tp wShift (.ok a) = true from ?_]
                    · rfl
                    · show kw tp wShift a = true
                      rw [kwe]
                      refine decide_eq_true (List.ext_getElem? (fun j => ?_))
                      by_cases hj : j < 5
                      · rw [sub_get (by omega)]; exact hall j (by omega)
                      · rw [List.getElem?_eq_none (by omega), List.getElem?_eq_none (show wShift.length ≤ j by show 5 ≤ j; omega)]
                  | succ m ih =>
                    intro i hi hall
                    have hil : a + i < tp.length := by omega
                    obtain ⟨c, hc⟩ : ∃ c, tp[a + i]? = some c := ⟨_, List.getElem?_eq_getElem hil⟩
                    obtain ⟨u, hu⟩ : ∃ u, wShift[i]? = some u := ⟨_, List.getElem?_eq_getElem (show i < wShift.length by show i < 5; omega)⟩
                    have hv := p1.1.2 _ c hc
                    have hu2 := hw1.1 i u hu
                    have ei : gI s2 200 2 + nI i = nI (a + i) := by rw [p3, nI_add]
                    have g1 : gI s2 201 (gI s2 200 2 + nI i).toNatClampNeg = nI c := by rw [ei, clN (by omega), hv.1]
                    have g2 : gI s2 209 (nI i).toNatClampNeg = nI u := by rw [clN (by omega), hu2]
                    have hub := hw1.2 u (List.mem_of_getElem? hu)
                    refine hP _ _ _ _ (And.intro (fun q => absurd q (show ¬ nI 5 ≤ nI i from nI_ge (by omega) (by omega))) (fun _ => And.intro (show vp_in (gI s2 200 2 + nI i) 1600 from by rw [ei]; exact vinN (by omega) (by decide)) (And.intro (show vp_in (nI i) 5 from vinN (by omega) (by decide)) (And.intro (fun q => ?_) (fun q => ⟨nar0, ?_, S1, O1⟩)))))
                    · have q1 : gI s2 201 (gI s2 200 2 + nI i).toNatClampNeg = gI s2 209 (nI i).toNatClampNeg := q
                      rw [g1, g2, nI_eq (by omega) (by omega)] at q1
                      show P 40 [some tM, some (.inr (.inr (some (.inl 209)))), some (iv (nI (wEn tp a))), some (iv (nI i + nI 1))] [] s2
                      rw [nI_add]
                      refine ih (i+1) (by omega) (fun j hj => ?_)
                      by_cases ej : j = i
                      · rw [ej, hc, hu, q1]
                      · exact hall j (by omega)
                    · have q1 : ¬ gI s2 201 (gI s2 200 2 + nI i).toNatClampNeg = gI s2 209 (nI i).toNatClampNeg := q
                      rw [g1, g2, nI_eq (by omega) (by omega)] at q1
                      rw [show kwS tp wShift (.ok a) = false from ?_]
                      · rfl
                      · show kw tp wShift a = false
                        rw [kwe]
                        refine decide_eq_false (fun e9 => q1 ?_)
                        have := sub_get (tp := tp) (a := a) (b := wEn tp a) (i := i) (by omega)
                        rw [e9, hc, hu] at this
                        cases this
                        rfl
                exact at40 5 0 (by omega) (fun j hj => absurd hj (Nat.not_lt_zero _))
              · have q0 : ¬ nI (wEn tp a) - gI s2 200 2 = nI 5 := q
                rw [ed, nI_eq (by omega) (by omega)] at q0
                rw [show kwS tp wShift (.ok a) = false from ?_]
                · rfl
                · show kw tp wShift a = false
                  rw [kwe]
                  refine decide_eq_false (fun e9 => q0 ?_)
                  rw [← hsl, e9]
                  rfl
            refine hP _ _ _ _ (And.intro (fun _ => at29) (fun q => ?_))
            have q0 : ¬ gI s2 200 3 ≤ nI (wEn tp a) := q
            rw [h3, nI_leI (by omega) (by omega)] at q0
            obtain ⟨c, hc⟩ : ∃ c, tp[wEn tp a]? = some c := ⟨_, List.getElem?_eq_getElem (by omega)⟩
            have hv := p1.1.2 _ c hc
            refine And.intro (show vp_in (nI (wEn tp a)) 1600 from vinN (by omega) (by decide)) ?_
            refine mcall (c_isLetter G g l d s2 _) (fun r s3 h8 => ?_)
            obtain ⟨rfl, rfl⟩ := h8
            rw [show gI s3 201 (nI (wEn tp a)).toNatClampNeg = byI tp (wEn tp a) by rw [clN (by omega), hv.1]; unfold byI; rw [hc]]
            rw [letB p1.1, show isAt isL tp (wEn tp a) = false from endE_end isL tp a]
            exact And.intro (fun _ => at29) (fun q => absurd rfl q)
          induction m with
          | zero => intro k hk hak; exact fin k (by omega)
          | succ m ih =>
            intro k hk hak
            have hkL : isAt isL tp k = true := endE_in (p := isL) (a := a) hak (by show k < wEn tp a; omega)
            have hkl := isAt_lt hkL
            obtain ⟨c, hc⟩ : ∃ c, tp[k]? = some c := ⟨_, List.getElem?_eq_getElem hkl⟩
            have hv := p1.1.2 _ c hc
            refine hP _ _ _ _ (And.intro (fun q => ?_) (fun _ => And.intro (show vp_in (nI k) 1600 from vinN (by omega) (by decide)) ?_))
            · have q0 : gI s2 200 3 ≤ nI k := q
              rw [h3, nI_leI (by omega) (by omega)] at q0
              omega
            refine mcall (c_isLetter G g l d s2 _) (fun r s3 h8 => ?_)
            obtain ⟨rfl, rfl⟩ := h8
            rw [show gI s3 201 (nI k).toNatClampNeg = byI tp k by rw [clN (by omega), hv.1]; unfold byI; rw [hc]]
            rw [letB p1.1, hkL]
            refine And.intro (fun q => absurd q (by decide)) (fun _ => ?_)
            show P 17 [some tM, some (.inr (.inr (some (.inl 209)))), some (iv (nI k + nI 1)), none] [] s3
            rw [nI_add]
            exact ih (k+1) (by omega) (by omega)
        show P 17 [some tM, some (.inr (.inr (some (.inl 209)))), some (iv (gI s2 200 2)), none] [] s2
        rw [p3]
        exact at17 (wEn tp a - a) a (by have := endE_ge isL tp a; show a + (endE isL tp a - a) = endE isL tp a; omega) (Nat.le_refl _)
      · have hpr : prLD tp a = true := pr_eq p3 p7 p9 (by omega) (by omega) q
        exact no s2 (by show kw tp wShift a = false; unfold kw; rw [hL, hpr]; rfl) S1 O1
theorem c_takes_209 (tp : List Nat) (S : Pos) (h : PX tp S σ) (hw : Wd 209 wShift σ) : MC G g l (d+3) mX6_takes [tM, .inr (.inr (some (.inl 209)))] σ (fun r t => r = some (iv (bI (kwS tp wShift S))) ∧ mS [2, 4] [] σ t ∧ PX tp (takS tp wShift S) t ∧ (kwS tp wShift S = false → PE tp S t)) := by
  refine MC0 tX6_takes rfl okX6_takes rfl rfl rfl rfl (fun P => ?_)
  refine mcall (c_isHere_209 G g l d σ tp S h hw) (fun r s1 h8 => ?_)
  obtain ⟨rfl, S1, E1⟩ := h8
  cases hk : kwS tp wShift S with
  | false => exact And.intro (fun q => absurd rfl q) (fun _ => ⟨nar0, rfl, S1.mono rfl rfl, takS_no hk E1, fun _ => E1⟩)
  | true =>
    refine And.intro (fun _ => ⟨nar1, rfl, ((S1.mono rfl rfl).f rfl).f rfl, ?_, fun q => by cases q⟩) (fun q => absurd q (by decide))
    exact takS_yes (n := 5) hk E1 rfl
theorem c_asks_209 (tp : List Nat) (S : Pos) (h : PX tp S σ) (hw : Wd 209 wShift σ) : MC G g l (d+4) mX6_asks [tM, .inr (.inr (some (.inl 209)))] σ (fun r t => r = none ∧ mS [2, 4, 5, 6] [] σ t ∧ PX tp (match S with
      | .ok a => askW tp wShift a
      | .error f => .error f) t) := by
  refine MC0 tX6_asks rfl okX6_asks rfl rfl rfl rfl (fun P => ?_)
  cases S with
  | error f => exact And.intro (fun _ => ⟨rfl, mS.rf, h⟩) (fun q => absurd q (pf_bad h))
  | ok a =>
    have p2 := h.elim (fun a' h => h.2.1)
    refine And.intro (fun q => absurd p2 q) (fun _ => ?_)
    refine mcall (c_takes_209 G g l d σ tp (.ok a) h hw) (fun r s1 h8 => ?_)
    obtain ⟨rfl, S1, X1, E1⟩ := h8
    cases hk : kwS tp wShift (.ok a) with
    | true =>
      refine And.intro (fun _ => ⟨rfl, S1.mono rfl rfl, ?_⟩) (fun q => absurd q (by decide))
      have hk0 : kw tp wShift a = true := hk
      show PX tp (askW tp wShift a) s1
      unfold askW
      rw [if_pos hk0]
      have : takS tp wShift (.ok a) = .ok (skp tp (a + wShift.length)) := if_pos hk0
      rw [this] at X1
      exact X1
    | false =>
      have hk0 : kw tp wShift a = false := hk
      have E2 : PO tp a a s1 := E1 hk
      refine And.intro (fun q => absurd rfl q) (fun _ => ?_)
      have hl := E2.1.len
      have ha := E2.2.2.2.2.1
      refine mcall (c_fail G g l (d+2) s1 tp (.ok a) ⟨a, E2⟩ _ _ 1 a rfl E2.2.2.1 (by omega) (by omega) (by omega)) (fun r s2 h8 => ?_)
      obtain ⟨rfl, S2, X2⟩ := h8
      refine ⟨rfl, (S1.mono rfl rfl).tr (S2.mono rfl rfl), ?_⟩
      show PX tp (askW tp wShift a) s2
      unfold askW
      rw [if_neg (by rw [hk0]; decide)]
      exact X2
set_option maxHeartbeats 1000000 in
theorem c_isHere_210 (tp : List Nat) (S : Pos) (h : PX tp S σ) (hw : Wd 210 wWide σ) : MC G g l (d+2) mX6_isHere [tM, .inr (.inr (some (.inl 210)))] σ (fun r t => r = some (iv (bI (kwS tp wWide S))) ∧ mS [2] [] σ t ∧ PE tp S t) := by
  refine MC1 tX6_isHere [12, 17, 29, 40] rfl okX6_isHere rfl rfl rfl rfl (fun P hP => ?_)
  have no : ∀ τ, kwS tp wWide S = false → mS [2] [] σ τ → PE tp S τ → P 12 [some tM, some (.inr (.inr (some (.inl 210)))), none, none] [] τ := fun τ e hS hE => hP _ _ _ _ ⟨nar0, by rw [e]; rfl, hS, hE⟩
  refine hP _ _ _ _ ?_
  cases S with
  | error f =>
    refine And.intro (fun _ => no σ rfl mS.rf h) (fun q => absurd q (pf_bad h))
  | ok a =>
    obtain ⟨a', h9⟩ := h
    refine And.intro (fun q => absurd h9.2.1 q) (fun _ => ?_)
    refine mcall (c_look G g l d σ tp a a' h9) (fun r s1 h8 => ?_)
    obtain ⟨rfl, S1, O1⟩ := h8
    have hw1 : Wd 210 wWide s1 := hw.keep S1 rfl rfl
    obtain ⟨p1, p2, p3, p4, p5, p6, e, p7, p8, p9, p10⟩ := O1
    have O1 : PO tp a a s1 := ⟨p1, p2, p3, p4, p5, p6, e, p7, p8, p9, p10⟩
    have hl := p1.len
    refine mcall (c_isLetter G g l d s1 (byI tp a)) (fun r s2 h8 => ?_)
    obtain ⟨rfl, rfl⟩ := h8
    rw [letB p1.1 a]
    cases hL : isAt isL tp a with
    | false => exact And.intro (fun _ => no s2 (by show kw tp wWide a = false; unfold kw; rw [hL]; rfl) S1 O1) (fun q => absurd rfl q)
    | true =>
      refine And.intro (fun q => absurd q (by decide)) (fun _ => And.intro (fun q => ?_) (fun q => ?_))
      · have hpr : prLD tp a = false := pr_ne p3 p7 p9 (by omega) (by omega) q
        have at17 : ∀ (m k : Nat), k + m = wEn tp a → a ≤ k → P 17 [some tM, some (.inr (.inr (some (.inl 210)))), some (iv (nI k)), none] [] s2 := by
          intro m
          have hwl : wEn tp a ≤ tp.length := endE_le isL p5
          have h3 : gI s2 200 3 = nI tp.length := p1.2
          have fin : ∀ k, k = wEn tp a → P 17 [some tM, some (.inr (.inr (some (.inl 210)))), some (iv (nI k)), none] [] s2 := by
            intro k hk
            subst hk
            have aw : a ≤ wEn tp a := endE_ge isL tp a
            have ed : nI (wEn tp a) - gI s2 200 2 = nI (wEn tp a - a) := by rw [p3]; exact nI_s1 _ _ aw
            have hsl := sub_len (tp := tp) (a := a) hwl
            have kwe : kw tp wWide a = decide (sub_ tp a (wEn tp a) = wWide) := by unfold kw; rw [hL, hpr]; rfl
            have at29 : P 29 [some tM, some (.inr (.inr (some (.inl 210)))), some (iv (nI (wEn tp a))), none] [] s2 := by
              refine hP _ _ _ _ (And.intro (fun q => ?_) (fun q => ⟨nar0, ?_, S1, O1⟩))
              · have q0 : nI (wEn tp a) - gI s2 200 2 = nI 4 := q
                rw [ed, nI_eq (by omega) (by omega)] at q0
                have at40 : ∀ (m i : Nat), i + m = 4 → (∀ j, j < i → tp[a + j]? = wWide[j]?) → P 40 [some tM, some (.inr (.inr (some (.inl 210)))), some (iv (nI (wEn tp a))), some (iv (nI i))] [] s2 := by
                  intro m
                  induction m with
                  | zero =>
                    intro i hi hall
                    refine hP _ _ _ _ (And.intro (fun _ => ⟨nar1, ?_, S1, O1⟩) (fun q => absurd (show nI 4 ≤ nI i from nI_le (by omega) (by omega)) q))
                    rw [show kwS tp wWide (.ok a) = true from ?_]
                    · rfl
                    · show kw tp wWide a = true
                      rw [kwe]
                      refine decide_eq_true (List.ext_getElem? (fun j => ?_))
                      by_cases hj : j < 4
                      · rw [sub_get (by omega)]; exact hall j (by omega)
                      · rw [List.getElem?_eq_none (by omega), List.getElem?_eq_none (show wWide.length ≤ j by show 4 ≤ j; omega)]
                  | succ m ih =>
                    intro i hi hall
                    have hil : a + i < tp.length := by omega
                    obtain ⟨c, hc⟩ : ∃ c, tp[a + i]? = some c := ⟨_, List.getElem?_eq_getElem hil⟩
                    obtain ⟨u, hu⟩ : ∃ u, wWide[i]? = some u := ⟨_, List.getElem?_eq_getElem (show i < wWide.length by show i < 4; omega)⟩
                    have hv := p1.1.2 _ c hc
                    have hu2 := hw1.1 i u hu
                    have ei : gI s2 200 2 + nI i = nI (a + i) := by rw [p3, nI_add]
                    have g1 : gI s2 201 (gI s2 200 2 + nI i).toNatClampNeg = nI c := by rw [ei, clN (by omega), hv.1]
                    have g2 : gI s2 210 (nI i).toNatClampNeg = nI u := by rw [clN (by omega), hu2]
                    have hub := hw1.2 u (List.mem_of_getElem? hu)
                    refine hP _ _ _ _ (And.intro (fun q => absurd q (show ¬ nI 4 ≤ nI i from nI_ge (by omega) (by omega))) (fun _ => And.intro (show vp_in (gI s2 200 2 + nI i) 1600 from by rw [ei]; exact vinN (by omega) (by decide)) (And.intro (show vp_in (nI i) 4 from vinN (by omega) (by decide)) (And.intro (fun q => ?_) (fun q => ⟨nar0, ?_, S1, O1⟩)))))
                    · have q1 : gI s2 201 (gI s2 200 2 + nI i).toNatClampNeg = gI s2 210 (nI i).toNatClampNeg := q
                      rw [g1, g2, nI_eq (by omega) (by omega)] at q1
                      show P 40 [some tM, some (.inr (.inr (some (.inl 210)))), some (iv (nI (wEn tp a))), some (iv (nI i + nI 1))] [] s2
                      rw [nI_add]
                      refine ih (i+1) (by omega) (fun j hj => ?_)
                      by_cases ej : j = i
                      · rw [ej, hc, hu, q1]
                      · exact hall j (by omega)
                    · have q1 : ¬ gI s2 201 (gI s2 200 2 + nI i).toNatClampNeg = gI s2 210 (nI i).toNatClampNeg := q
                      rw [g1, g2, nI_eq (by omega) (by omega)] at q1
                      rw [show kwS tp wWide (.ok a) = false from ?_]
                      · rfl
                      · show kw tp wWide a = false
                        rw [kwe]
                        refine decide_eq_false (fun e9 => q1 ?_)
                        have := sub_get (tp := tp) (a := a) (b := wEn tp a) (i := i) (by omega)
                        rw [e9, hc, hu] at this
                        cases this
                        rfl
                exact at40 4 0 (by omega) (fun j hj => absurd hj (Nat.not_lt_zero _))
              · have q0 : ¬ nI (wEn tp a) - gI s2 200 2 = nI 4 := q
                rw [ed, nI_eq (by omega) (by omega)] at q0
                rw [show kwS tp wWide (.ok a) = false from ?_]
                · rfl
                · show kw tp wWide a = false
                  rw [kwe]
                  refine decide_eq_false (fun e9 => q0 ?_)
                  rw [← hsl, e9]
                  rfl
            refine hP _ _ _ _ (And.intro (fun _ => at29) (fun q => ?_))
            have q0 : ¬ gI s2 200 3 ≤ nI (wEn tp a) := q
            rw [h3, nI_leI (by omega) (by omega)] at q0
            obtain ⟨c, hc⟩ : ∃ c, tp[wEn tp a]? = some c := ⟨_, List.getElem?_eq_getElem (by omega)⟩
            have hv := p1.1.2 _ c hc
            refine And.intro (show vp_in (nI (wEn tp a)) 1600 from vinN (by omega) (by decide)) ?_
            refine mcall (c_isLetter G g l d s2 _) (fun r s3 h8 => ?_)
            obtain ⟨rfl, rfl⟩ := h8
            rw [show gI s3 201 (nI (wEn tp a)).toNatClampNeg = byI tp (wEn tp a) by rw [clN (by omega), hv.1]; unfold byI; rw [hc]]
            rw [letB p1.1, show isAt isL tp (wEn tp a) = false from endE_end isL tp a]
            exact And.intro (fun _ => at29) (fun q => absurd rfl q)
          induction m with
          | zero => intro k hk hak; exact fin k (by omega)
          | succ m ih =>
            intro k hk hak
            have hkL : isAt isL tp k = true := endE_in (p := isL) (a := a) hak (by show k < wEn tp a; omega)
            have hkl := isAt_lt hkL
            obtain ⟨c, hc⟩ : ∃ c, tp[k]? = some c := ⟨_, List.getElem?_eq_getElem hkl⟩
            have hv := p1.1.2 _ c hc
            refine hP _ _ _ _ (And.intro (fun q => ?_) (fun _ => And.intro (show vp_in (nI k) 1600 from vinN (by omega) (by decide)) ?_))
            · have q0 : gI s2 200 3 ≤ nI k := q
              rw [h3, nI_leI (by omega) (by omega)] at q0
              omega
            refine mcall (c_isLetter G g l d s2 _) (fun r s3 h8 => ?_)
            obtain ⟨rfl, rfl⟩ := h8
            rw [show gI s3 201 (nI k).toNatClampNeg = byI tp k by rw [clN (by omega), hv.1]; unfold byI; rw [hc]]
            rw [letB p1.1, hkL]
            refine And.intro (fun q => absurd q (by decide)) (fun _ => ?_)
            show P 17 [some tM, some (.inr (.inr (some (.inl 210)))), some (iv (nI k + nI 1)), none] [] s3
            rw [nI_add]
            exact ih (k+1) (by omega) (by omega)
        show P 17 [some tM, some (.inr (.inr (some (.inl 210)))), some (iv (gI s2 200 2)), none] [] s2
        rw [p3]
        exact at17 (wEn tp a - a) a (by have := endE_ge isL tp a; show a + (endE isL tp a - a) = endE isL tp a; omega) (Nat.le_refl _)
      · have hpr : prLD tp a = true := pr_eq p3 p7 p9 (by omega) (by omega) q
        exact no s2 (by show kw tp wWide a = false; unfold kw; rw [hL, hpr]; rfl) S1 O1
theorem c_takes_210 (tp : List Nat) (S : Pos) (h : PX tp S σ) (hw : Wd 210 wWide σ) : MC G g l (d+3) mX6_takes [tM, .inr (.inr (some (.inl 210)))] σ (fun r t => r = some (iv (bI (kwS tp wWide S))) ∧ mS [2, 4] [] σ t ∧ PX tp (takS tp wWide S) t ∧ (kwS tp wWide S = false → PE tp S t)) := by
  refine MC0 tX6_takes rfl okX6_takes rfl rfl rfl rfl (fun P => ?_)
  refine mcall (c_isHere_210 G g l d σ tp S h hw) (fun r s1 h8 => ?_)
  obtain ⟨rfl, S1, E1⟩ := h8
  cases hk : kwS tp wWide S with
  | false => exact And.intro (fun q => absurd rfl q) (fun _ => ⟨nar0, rfl, S1.mono rfl rfl, takS_no hk E1, fun _ => E1⟩)
  | true =>
    refine And.intro (fun _ => ⟨nar1, rfl, ((S1.mono rfl rfl).f rfl).f rfl, ?_, fun q => by cases q⟩) (fun q => absurd q (by decide))
    exact takS_yes (n := 4) hk E1 rfl
theorem c_asks_210 (tp : List Nat) (S : Pos) (h : PX tp S σ) (hw : Wd 210 wWide σ) : MC G g l (d+4) mX6_asks [tM, .inr (.inr (some (.inl 210)))] σ (fun r t => r = none ∧ mS [2, 4, 5, 6] [] σ t ∧ PX tp (match S with
      | .ok a => askW tp wWide a
      | .error f => .error f) t) := by
  refine MC0 tX6_asks rfl okX6_asks rfl rfl rfl rfl (fun P => ?_)
  cases S with
  | error f => exact And.intro (fun _ => ⟨rfl, mS.rf, h⟩) (fun q => absurd q (pf_bad h))
  | ok a =>
    have p2 := h.elim (fun a' h => h.2.1)
    refine And.intro (fun q => absurd p2 q) (fun _ => ?_)
    refine mcall (c_takes_210 G g l d σ tp (.ok a) h hw) (fun r s1 h8 => ?_)
    obtain ⟨rfl, S1, X1, E1⟩ := h8
    cases hk : kwS tp wWide (.ok a) with
    | true =>
      refine And.intro (fun _ => ⟨rfl, S1.mono rfl rfl, ?_⟩) (fun q => absurd q (by decide))
      have hk0 : kw tp wWide a = true := hk
      show PX tp (askW tp wWide a) s1
      unfold askW
      rw [if_pos hk0]
      have : takS tp wWide (.ok a) = .ok (skp tp (a + wWide.length)) := if_pos hk0
      rw [this] at X1
      exact X1
    | false =>
      have hk0 : kw tp wWide a = false := hk
      have E2 : PO tp a a s1 := E1 hk
      refine And.intro (fun q => absurd rfl q) (fun _ => ?_)
      have hl := E2.1.len
      have ha := E2.2.2.2.2.1
      refine mcall (c_fail G g l (d+2) s1 tp (.ok a) ⟨a, E2⟩ _ _ 1 a rfl E2.2.2.1 (by omega) (by omega) (by omega)) (fun r s2 h8 => ?_)
      obtain ⟨rfl, S2, X2⟩ := h8
      refine ⟨rfl, (S1.mono rfl rfl).tr (S2.mono rfl rfl), ?_⟩
      show PX tp (askW tp wWide a) s2
      unfold askW
      rw [if_neg (by rw [hk0]; decide)]
      exact X2
set_option maxHeartbeats 1000000 in
theorem c_isHere_211 (tp : List Nat) (S : Pos) (h : PX tp S σ) (hw : Wd 211 wWalker σ) : MC G g l (d+2) mX6_isHere [tM, .inr (.inr (some (.inl 211)))] σ (fun r t => r = some (iv (bI (kwS tp wWalker S))) ∧ mS [2] [] σ t ∧ PE tp S t) := by
  refine MC1 tX6_isHere [12, 17, 29, 40] rfl okX6_isHere rfl rfl rfl rfl (fun P hP => ?_)
  have no : ∀ τ, kwS tp wWalker S = false → mS [2] [] σ τ → PE tp S τ → P 12 [some tM, some (.inr (.inr (some (.inl 211)))), none, none] [] τ := fun τ e hS hE => hP _ _ _ _ ⟨nar0, by rw [e]; rfl, hS, hE⟩
  refine hP _ _ _ _ ?_
  cases S with
  | error f =>
    refine And.intro (fun _ => no σ rfl mS.rf h) (fun q => absurd q (pf_bad h))
  | ok a =>
    obtain ⟨a', h9⟩ := h
    refine And.intro (fun q => absurd h9.2.1 q) (fun _ => ?_)
    refine mcall (c_look G g l d σ tp a a' h9) (fun r s1 h8 => ?_)
    obtain ⟨rfl, S1, O1⟩ := h8
    have hw1 : Wd 211 wWalker s1 := hw.keep S1 rfl rfl
    obtain ⟨p1, p2, p3, p4, p5, p6, e, p7, p8, p9, p10⟩ := O1
    have O1 : PO tp a a s1 := ⟨p1, p2, p3, p4, p5, p6, e, p7, p8, p9, p10⟩
    have hl := p1.len
    refine mcall (c_isLetter G g l d s1 (byI tp a)) (fun r s2 h8 => ?_)
    obtain ⟨rfl, rfl⟩ := h8
    rw [letB p1.1 a]
    cases hL : isAt isL tp a with
    | false => exact And.intro (fun _ => no s2 (by show kw tp wWalker a = false; unfold kw; rw [hL]; rfl) S1 O1) (fun q => absurd rfl q)
    | true =>
      refine And.intro (fun q => absurd q (by decide)) (fun _ => And.intro (fun q => ?_) (fun q => ?_))
      · have hpr : prLD tp a = false := pr_ne p3 p7 p9 (by omega) (by omega) q
        have at17 : ∀ (m k : Nat), k + m = wEn tp a → a ≤ k → P 17 [some tM, some (.inr (.inr (some (.inl 211)))), some (iv (nI k)), none] [] s2 := by
          intro m
          have hwl : wEn tp a ≤ tp.length := endE_le isL p5
          have h3 : gI s2 200 3 = nI tp.length := p1.2
          have fin : ∀ k, k = wEn tp a → P 17 [some tM, some (.inr (.inr (some (.inl 211)))), some (iv (nI k)), none] [] s2 := by
            intro k hk
            subst hk
            have aw : a ≤ wEn tp a := endE_ge isL tp a
            have ed : nI (wEn tp a) - gI s2 200 2 = nI (wEn tp a - a) := by rw [p3]; exact nI_s1 _ _ aw
            have hsl := sub_len (tp := tp) (a := a) hwl
            have kwe : kw tp wWalker a = decide (sub_ tp a (wEn tp a) = wWalker) := by unfold kw; rw [hL, hpr]; rfl
            have at29 : P 29 [some tM, some (.inr (.inr (some (.inl 211)))), some (iv (nI (wEn tp a))), none] [] s2 := by
              refine hP _ _ _ _ (And.intro (fun q => ?_) (fun q => ⟨nar0, ?_, S1, O1⟩))
              · have q0 : nI (wEn tp a) - gI s2 200 2 = nI 6 := q
                rw [ed, nI_eq (by omega) (by omega)] at q0
                have at40 : ∀ (m i : Nat), i + m = 6 → (∀ j, j < i → tp[a + j]? = wWalker[j]?) → P 40 [some tM, some (.inr (.inr (some (.inl 211)))), some (iv (nI (wEn tp a))), some (iv (nI i))] [] s2 := by
                  intro m
                  induction m with
                  | zero =>
                    intro i hi hall
                    refine hP _ _ _ _ (And.intro (fun _ => ⟨nar1, ?_, S1, O1⟩) (fun q => absurd (show nI 6 ≤ nI i from nI_le (by omega) (by omega)) q))
                    rw [show kwS tp wWalker (.ok a) = true from ?_]
                    · rfl
                    · show kw tp wWalker a = true
                      rw [kwe]
                      refine decide_eq_true (List.ext_getElem? (fun j => ?_))
                      by_cases hj : j < 6
                      · rw [sub_get (by omega)]; exact hall j (by omega)
                      · rw [List.getElem?_eq_none (by omega), List.getElem?_eq_none (show wWalker.length ≤ j by show 6 ≤ j; omega)]
                  | succ m ih =>
                    intro i hi hall
                    have hil : a + i < tp.length := by omega
                    obtain ⟨c, hc⟩ : ∃ c, tp[a + i]? = some c := ⟨_, List.getElem?_eq_getElem hil⟩
                    obtain ⟨u, hu⟩ : ∃ u, wWalker[i]? = some u := ⟨_, List.getElem?_eq_getElem (show i < wWalker.length by show i < 6; omega)⟩
                    have hv := p1.1.2 _ c hc
                    have hu2 := hw1.1 i u hu
                    have ei : gI s2 200 2 + nI i = nI (a + i) := by rw [p3, nI_add]
                    have g1 : gI s2 201 (gI s2 200 2 + nI i).toNatClampNeg = nI c := by rw [ei, clN (by omega), hv.1]
                    have g2 : gI s2 211 (nI i).toNatClampNeg = nI u := by rw [clN (by omega), hu2]
                    have hub := hw1.2 u (List.mem_of_getElem? hu)
                    refine hP _ _ _ _ (And.intro (fun q => absurd q (show ¬ nI 6 ≤ nI i from nI_ge (by omega) (by omega))) (fun _ => And.intro (show vp_in (gI s2 200 2 + nI i) 1600 from by rw [ei]; exact vinN (by omega) (by decide)) (And.intro (show vp_in (nI i) 6 from vinN (by omega) (by decide)) (And.intro (fun q => ?_) (fun q => ⟨nar0, ?_, S1, O1⟩)))))
                    · have q1 : gI s2 201 (gI s2 200 2 + nI i).toNatClampNeg = gI s2 211 (nI i).toNatClampNeg := q
                      rw [g1, g2, nI_eq (by omega) (by omega)] at q1
                      show P 40 [some tM, some (.inr (.inr (some (.inl 211)))), some (iv (nI (wEn tp a))), some (iv (nI i + nI 1))] [] s2
                      rw [nI_add]
                      refine ih (i+1) (by omega) (fun j hj => ?_)
                      by_cases ej : j = i
                      · rw [ej, hc, hu, q1]
                      · exact hall j (by omega)
                    · have q1 : ¬ gI s2 201 (gI s2 200 2 + nI i).toNatClampNeg = gI s2 211 (nI i).toNatClampNeg := q
                      rw [g1, g2, nI_eq (by omega) (by omega)] at q1
                      rw [show kwS tp wWalker (.ok a) = false from ?_]
                      · rfl
                      · show kw tp wWalker a = false
                        rw [kwe]
                        refine decide_eq_false (fun e9 => q1 ?_)
                        have := sub_get (tp := tp) (a := a) (b := wEn tp a) (i := i) (by omega)
                        rw [e9, hc, hu] at this
                        cases this
                        rfl
                exact at40 6 0 (by omega) (fun j hj => absurd hj (Nat.not_lt_zero _))
              · have q0 : ¬ nI (wEn tp a) - gI s2 200 2 = nI 6 := q
                rw [ed, nI_eq (by omega) (by omega)] at q0
                rw [show kwS tp wWalker (.ok a) = false from ?_]
                · rfl
                · show kw tp wWalker a = false
                  rw [kwe]
                  refine decide_eq_false (fun e9 => q0 ?_)
                  rw [← hsl, e9]
                  rfl
            refine hP _ _ _ _ (And.intro (fun _ => at29) (fun q => ?_))
            have q0 : ¬ gI s2 200 3 ≤ nI (wEn tp a) := q
            rw [h3, nI_leI (by omega) (by omega)] at q0
            obtain ⟨c, hc⟩ : ∃ c, tp[wEn tp a]? = some c := ⟨_, List.getElem?_eq_getElem (by omega)⟩
            have hv := p1.1.2 _ c hc
            refine And.intro (show vp_in (nI (wEn tp a)) 1600 from vinN (by omega) (by decide)) ?_
            refine mcall (c_isLetter G g l d s2 _) (fun r s3 h8 => ?_)
            obtain ⟨rfl, rfl⟩ := h8
            rw [show gI s3 201 (nI (wEn tp a)).toNatClampNeg = byI tp (wEn tp a) by rw [clN (by omega), hv.1]; unfold byI; rw [hc]]
            rw [letB p1.1, show isAt isL tp (wEn tp a) = false from endE_end isL tp a]
            exact And.intro (fun _ => at29) (fun q => absurd rfl q)
          induction m with
          | zero => intro k hk hak; exact fin k (by omega)
          | succ m ih =>
            intro k hk hak
            have hkL : isAt isL tp k = true := endE_in (p := isL) (a := a) hak (by show k < wEn tp a; omega)
            have hkl := isAt_lt hkL
            obtain ⟨c, hc⟩ : ∃ c, tp[k]? = some c := ⟨_, List.getElem?_eq_getElem hkl⟩
            have hv := p1.1.2 _ c hc
            refine hP _ _ _ _ (And.intro (fun q => ?_) (fun _ => And.intro (show vp_in (nI k) 1600 from vinN (by omega) (by decide)) ?_))
            · have q0 : gI s2 200 3 ≤ nI k := q
              rw [h3, nI_leI (by omega) (by omega)] at q0
              omega
            refine mcall (c_isLetter G g l d s2 _) (fun r s3 h8 => ?_)
            obtain ⟨rfl, rfl⟩ := h8
            rw [show gI s3 201 (nI k).toNatClampNeg = byI tp k by rw [clN (by omega), hv.1]; unfold byI; rw [hc]]
            rw [letB p1.1, hkL]
            refine And.intro (fun q => absurd q (by decide)) (fun _ => ?_)
            show P 17 [some tM, some (.inr (.inr (some (.inl 211)))), some (iv (nI k + nI 1)), none] [] s3
            rw [nI_add]
            exact ih (k+1) (by omega) (by omega)
        show P 17 [some tM, some (.inr (.inr (some (.inl 211)))), some (iv (gI s2 200 2)), none] [] s2
        rw [p3]
        exact at17 (wEn tp a - a) a (by have := endE_ge isL tp a; show a + (endE isL tp a - a) = endE isL tp a; omega) (Nat.le_refl _)
      · have hpr : prLD tp a = true := pr_eq p3 p7 p9 (by omega) (by omega) q
        exact no s2 (by show kw tp wWalker a = false; unfold kw; rw [hL, hpr]; rfl) S1 O1
theorem c_takes_211 (tp : List Nat) (S : Pos) (h : PX tp S σ) (hw : Wd 211 wWalker σ) : MC G g l (d+3) mX6_takes [tM, .inr (.inr (some (.inl 211)))] σ (fun r t => r = some (iv (bI (kwS tp wWalker S))) ∧ mS [2, 4] [] σ t ∧ PX tp (takS tp wWalker S) t ∧ (kwS tp wWalker S = false → PE tp S t)) := by
  refine MC0 tX6_takes rfl okX6_takes rfl rfl rfl rfl (fun P => ?_)
  refine mcall (c_isHere_211 G g l d σ tp S h hw) (fun r s1 h8 => ?_)
  obtain ⟨rfl, S1, E1⟩ := h8
  cases hk : kwS tp wWalker S with
  | false => exact And.intro (fun q => absurd rfl q) (fun _ => ⟨nar0, rfl, S1.mono rfl rfl, takS_no hk E1, fun _ => E1⟩)
  | true =>
    refine And.intro (fun _ => ⟨nar1, rfl, ((S1.mono rfl rfl).f rfl).f rfl, ?_, fun q => by cases q⟩) (fun q => absurd q (by decide))
    exact takS_yes (n := 6) hk E1 rfl
theorem c_asks_211 (tp : List Nat) (S : Pos) (h : PX tp S σ) (hw : Wd 211 wWalker σ) : MC G g l (d+4) mX6_asks [tM, .inr (.inr (some (.inl 211)))] σ (fun r t => r = none ∧ mS [2, 4, 5, 6] [] σ t ∧ PX tp (match S with
      | .ok a => askW tp wWalker a
      | .error f => .error f) t) := by
  refine MC0 tX6_asks rfl okX6_asks rfl rfl rfl rfl (fun P => ?_)
  cases S with
  | error f => exact And.intro (fun _ => ⟨rfl, mS.rf, h⟩) (fun q => absurd q (pf_bad h))
  | ok a =>
    have p2 := h.elim (fun a' h => h.2.1)
    refine And.intro (fun q => absurd p2 q) (fun _ => ?_)
    refine mcall (c_takes_211 G g l d σ tp (.ok a) h hw) (fun r s1 h8 => ?_)
    obtain ⟨rfl, S1, X1, E1⟩ := h8
    cases hk : kwS tp wWalker (.ok a) with
    | true =>
      refine And.intro (fun _ => ⟨rfl, S1.mono rfl rfl, ?_⟩) (fun q => absurd q (by decide))
      have hk0 : kw tp wWalker a = true := hk
      show PX tp (askW tp wWalker a) s1
      unfold askW
      rw [if_pos hk0]
      have : takS tp wWalker (.ok a) = .ok (skp tp (a + wWalker.length)) := if_pos hk0
      rw [this] at X1
      exact X1
    | false =>
      have hk0 : kw tp wWalker a = false := hk
      have E2 : PO tp a a s1 := E1 hk
      refine And.intro (fun q => absurd rfl q) (fun _ => ?_)
      have hl := E2.1.len
      have ha := E2.2.2.2.2.1
      refine mcall (c_fail G g l (d+2) s1 tp (.ok a) ⟨a, E2⟩ _ _ 1 a rfl E2.2.2.1 (by omega) (by omega) (by omega)) (fun r s2 h8 => ?_)
      obtain ⟨rfl, S2, X2⟩ := h8
      refine ⟨rfl, (S1.mono rfl rfl).tr (S2.mono rfl rfl), ?_⟩
      show PX tp (askW tp wWalker a) s2
      unfold askW
      rw [if_neg (by rw [hk0]; decide)]
      exact X2
end KW_0
