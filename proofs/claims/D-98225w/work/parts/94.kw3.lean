section KW_18
variable (G : CX) (g : GX) (l : Launch) (d : Nat) (σ : AS)
set_option maxHeartbeats 1000000 in
theorem c_isHere_247 (tp : List Nat) (S : Pos) (h : PX tp S σ) (hw : Wd 247 wLast σ) : MC G g l (d+2) mX6_isHere [tM, .inr (.inr (some (.inl 247)))] σ (fun r t => r = some (iv (bI (kwS tp wLast S))) ∧ mS [2] [] σ t ∧ PE tp S t) := by
  refine MC1 tX6_isHere [12, 17, 29, 40] rfl okX6_isHere rfl rfl rfl rfl (fun P hP => ?_)
  have no : ∀ τ, kwS tp wLast S = false → mS [2] [] σ τ → PE tp S τ → P 12 [some tM, some (.inr (.inr (some (.inl 247)))), none, none] [] τ := fun τ e hS hE => hP _ _ _ _ ⟨nar0, by rw [e]; rfl, hS, hE⟩
  refine hP _ _ _ _ ?_
  cases S with
  | error f =>
    refine And.intro (fun _ => no σ rfl mS.rf h) (fun q => absurd q (pf_bad h))
  | ok a =>
    obtain ⟨a', h9⟩ := h
    refine And.intro (fun q => absurd h9.2.1 q) (fun _ => ?_)
    refine mcall (c_look G g l d σ tp a a' h9) (fun r s1 h8 => ?_)
    obtain ⟨rfl, S1, O1⟩ := h8
    have hw1 : Wd 247 wLast s1 := hw.keep S1 rfl rfl
    obtain ⟨p1, p2, p3, p4, p5, p6, e, p7, p8, p9, p10⟩ := O1
    have O1 : PO tp a a s1 := ⟨p1, p2, p3, p4, p5, p6, e, p7, p8, p9, p10⟩
    have hl := p1.len
    refine mcall (c_isLetter G g l d s1 (byI tp a)) (fun r s2 h8 => ?_)
    obtain ⟨rfl, rfl⟩ := h8
    rw [letB p1.1 a]
    cases hL : isAt isL tp a with
    | false => exact And.intro (fun _ => no s2 (by show kw tp wLast a = false; unfold kw; rw [hL]; rfl) S1 O1) (fun q => absurd rfl q)
    | true =>
      refine And.intro (fun q => absurd q (by decide)) (fun _ => And.intro (fun q => ?_) (fun q => ?_))
      · have hpr : prLD tp a = false := pr_ne p3 p7 p9 (by omega) (by omega) q
        have at17 : ∀ (m k : Nat), k + m = wEn tp a → a ≤ k → P 17 [some tM, some (.inr (.inr (some (.inl 247)))), some (iv (nI k)), none] [] s2 := by
          intro m
          have hwl : wEn tp a ≤ tp.length := endE_le isL p5
          have h3 : gI s2 200 3 = nI tp.length := p1.2
          have fin : ∀ k, k = wEn tp a → P 17 [some tM, some (.inr (.inr (some (.inl 247)))), some (iv (nI k)), none] [] s2 := by
            intro k hk
            subst hk
            have aw : a ≤ wEn tp a := endE_ge isL tp a
            have ed : nI (wEn tp a) - gI s2 200 2 = nI (wEn tp a - a) := by rw [p3]; exact nI_s1 _ _ aw
            have hsl := sub_len (tp := tp) (a := a) hwl
            have kwe : kw tp wLast a = decide (sub_ tp a (wEn tp a) = wLast) := by unfold kw; rw [hL, hpr]; rfl
            have at29 : P 29 [some tM, some (.inr (.inr (some (.inl 247)))), some (iv (nI (wEn tp a))), none] [] s2 := by
              refine hP _ _ _ _ (And.intro (fun q => ?_) (fun q => ⟨nar0, ?_, S1, O1⟩))
              · have q0 : nI (wEn tp a) - gI s2 200 2 = nI 4 := q
                rw [ed, nI_eq (by omega) (by omega)] at q0
                have at40 : ∀ (m i : Nat), i + m = 4 → (∀ j, j < i → tp[a + j]? = wLast[j]?) → P 40 [some tM, some (.inr (.inr (some (.inl 247)))), some (iv (nI (wEn tp a))), some (iv (nI i))] [] s2 := by
                  intro m
                  induction m with
                  | zero =>
                    intro i hi hall
                    refine hP _ _ _ _ (And.intro (fun _ => ⟨nar1, ?_, S1, O1⟩) (fun q => absurd (show nI 4 ≤ nI i from nI_le (by omega) (by omega)) q))
                    rw [show kwS tp wLast (.ok a) = true from ?_]
                    · rfl
                    · show kw tp wLast a = true
                      rw [kwe]
                      refine decide_eq_true (List.ext_getElem? (fun j => ?_))
                      by_cases hj : j < 4
                      · rw [sub_get (by omega)]; exact hall j (by omega)
                      · rw [List.getElem?_eq_none (by omega), List.getElem?_eq_none (show wLast.length ≤ j by show 4 ≤ j; omega)]
                  | succ m ih =>
                    intro i hi hall
                    have hil : a + i < tp.length := by omega
                    obtain ⟨c, hc⟩ : ∃ c, tp[a + i]? = some c := ⟨_, List.getElem?_eq_getElem hil⟩
                    obtain ⟨u, hu⟩ : ∃ u, wLast[i]? = some u := ⟨_, List.getElem?_eq_getElem (show i < wLast.length by show i < 4; omega)⟩
                    have hv := p1.1.2 _ c hc
                    have hu2 := hw1.1 i u hu
                    have ei : gI s2 200 2 + nI i = nI (a + i) := by rw [p3, nI_add]
                    have g1 : gI s2 201 (gI s2 200 2 + nI i).toNatClampNeg = nI c := by rw [ei, clN (by omega), hv.1]
                    have g2 : gI s2 247 (nI i).toNatClampNeg = nI u := by rw [clN (by omega), hu2]
                    have hub := hw1.2 u (List.mem_of_getElem? hu)
                    refine hP _ _ _ _ (And.intro (fun q => absurd q (show ¬ nI 4 ≤ nI i from nI_ge (by omega) (by omega))) (fun _ => And.intro (show vp_in (gI s2 200 2 + nI i) 1600 from by rw [ei]; exact vinN (by omega) (by decide)) (And.intro (show vp_in (nI i) 4 from vinN (by omega) (by decide)) (And.intro (fun q => ?_) (fun q => ⟨nar0, ?_, S1, O1⟩)))))
                    · have q1 : gI s2 201 (gI s2 200 2 + nI i).toNatClampNeg = gI s2 247 (nI i).toNatClampNeg := q
                      rw [g1, g2, nI_eq (by omega) (by omega)] at q1
                      show P 40 [some tM, some (.inr (.inr (some (.inl 247)))), some (iv (nI (wEn tp a))), some (iv (nI i + nI 1))] [] s2
                      rw [nI_add]
                      refine ih (i+1) (by omega) (fun j hj => ?_)
                      by_cases ej : j = i
                      · rw [ej, hc, hu, q1]
                      · exact hall j (by omega)
                    · have q1 : ¬ gI s2 201 (gI s2 200 2 + nI i).toNatClampNeg = gI s2 247 (nI i).toNatClampNeg := q
                      rw [g1, g2, nI_eq (by omega) (by omega)] at q1
                      rw [show kwS tp wLast (.ok a) = false from ?_]
                      · rfl
                      · show kw tp wLast a = false
                        rw [kwe]
                        refine decide_eq_false (fun e9 => q1 ?_)
                        have := sub_get (tp := tp) (a := a) (b := wEn tp a) (i := i) (by omega)
                        rw [e9, hc, hu] at this
                        cases this
                        rfl
                exact at40 4 0 (by omega) (fun j hj => absurd hj (Nat.not_lt_zero _))
              · have q0 : ¬ nI (wEn tp a) - gI s2 200 2 = nI 4 := q
                rw [ed, nI_eq (by omega) (by omega)] at q0
                rw [show kwS tp wLast (.ok a) = false from ?_]
                · rfl
                · show kw tp wLast a = false
                  rw [kwe]
                  refine decide_eq_false (fun e9 => q0 ?_)
                  rw [← hsl, e9]
                  rfl
            refine hP _ _ _ _ (And.intro (fun _ => at29) (fun q => ?_))
            have q0 : ¬ gI s2 200 3 ≤ nI (wEn tp a) := q
            rw [h3, nI_leI (by omega) (by omega)] at q0
            obtain ⟨c, hc⟩ : ∃ c, tp[wEn tp a]? = some c := ⟨_, List.getElem?_eq_getElem (by omega)⟩
            have hv := p1.1.2 _ c hc
            refine And.intro (show vp_in (nI (wEn tp a)) 1600 from vinN (by omega) (by decide)) ?_
            refine mcall (c_isLetter G g l d s2 _) (fun r s3 h8 => ?_)
            obtain ⟨rfl, rfl⟩ := h8
            rw [show gI s3 201 (nI (wEn tp a)).toNatClampNeg = byI tp (wEn tp a) by rw [clN (by omega), hv.1]; unfold byI; rw [hc]]
            rw [letB p1.1, show isAt isL tp (wEn tp a) = false from endE_end isL tp a]
            exact And.intro (fun _ => at29) (fun q => absurd rfl q)
          induction m with
          | zero => intro k hk hak; exact fin k (by omega)
          | succ m ih =>
            intro k hk hak
            have hkL : isAt isL tp k = true := endE_in (p := isL) (a := a) hak (by show k < wEn tp a; omega)
            have hkl := isAt_lt hkL
            obtain ⟨c, hc⟩ : ∃ c, tp[k]? = some c := ⟨_, List.getElem?_eq_getElem hkl⟩
            have hv := p1.1.2 _ c hc
            refine hP _ _ _ _ (And.intro (fun q => ?_) (fun _ => And.intro (show vp_in (nI k) 1600 from vinN (by omega) (by decide)) ?_))
            · have q0 : gI s2 200 3 ≤ nI k := q
              rw [h3, nI_leI (by omega) (by omega)] at q0
              omega
            refine mcall (c_isLetter G g l d s2 _) (fun r s3 h8 => ?_)
            obtain ⟨rfl, rfl⟩ := h8
            rw [show gI s3 201 (nI k).toNatClampNeg = byI tp k by rw [clN (by omega), hv.1]; unfold byI; rw [hc]]
            rw [letB p1.1, hkL]
            refine And.intro (fun q => absurd q (by decide)) (fun _ => ?_)
            show P 17 [some tM, some (.inr (.inr (some (.inl 247)))), some (iv (nI k + nI 1)), none] [] s3
            rw [nI_add]
            exact ih (k+1) (by omega) (by omega)
        show P 17 [some tM, some (.inr (.inr (some (.inl 247)))), some (iv (gI s2 200 2)), none] [] s2
        rw [p3]
        exact at17 (wEn tp a - a) a (by have := endE_ge isL tp a; show a + (endE isL tp a - a) = endE isL tp a; omega) (Nat.le_refl _)
      · have hpr : prLD tp a = true := pr_eq p3 p7 p9 (by omega) (by omega) q
        exact no s2 (by show kw tp wLast a = false; unfold kw; rw [hL, hpr]; rfl) S1 O1
theorem c_takes_247 (tp : List Nat) (S : Pos) (h : PX tp S σ) (hw : Wd 247 wLast σ) : MC G g l (d+3) mX6_takes [tM, .inr (.inr (some (.inl 247)))] σ (fun r t => r = some (iv (bI (kwS tp wLast S))) ∧ mS [2, 4] [] σ t ∧ PX tp (takS tp wLast S) t ∧ (kwS tp wLast S = false → PE tp S t)) := by
  refine MC0 tX6_takes rfl okX6_takes rfl rfl rfl rfl (fun P => ?_)
  refine mcall (c_isHere_247 G g l d σ tp S h hw) (fun r s1 h8 => ?_)
  obtain ⟨rfl, S1, E1⟩ := h8
  cases hk : kwS tp wLast S with
  | false => exact And.intro (fun q => absurd rfl q) (fun _ => ⟨nar0, rfl, S1.mono rfl rfl, takS_no hk E1, fun _ => E1⟩)
  | true =>
    refine And.intro (fun _ => ⟨nar1, rfl, ((S1.mono rfl rfl).f rfl).f rfl, ?_, fun q => by cases q⟩) (fun q => absurd q (by decide))
    exact takS_yes (n := 4) hk E1 rfl
theorem c_asks_247 (tp : List Nat) (S : Pos) (h : PX tp S σ) (hw : Wd 247 wLast σ) : MC G g l (d+4) mX6_asks [tM, .inr (.inr (some (.inl 247)))] σ (fun r t => r = none ∧ mS [2, 4, 5, 6] [] σ t ∧ PX tp (match S with
      | .ok a => askW tp wLast a
      | .error f => .error f) t) := by
  refine MC0 tX6_asks rfl okX6_asks rfl rfl rfl rfl (fun P => ?_)
  cases S with
  | error f => exact And.intro (fun _ => ⟨rfl, mS.rf, h⟩) (fun q => absurd q (pf_bad h))
  | ok a =>
    have p2 := h.elim (fun a' h => h.2.1)
    refine And.intro (fun q => absurd p2 q) (fun _ => ?_)
    refine mcall (c_takes_247 G g l d σ tp (.ok a) h hw) (fun r s1 h8 => ?_)
    obtain ⟨rfl, S1, X1, E1⟩ := h8
    cases hk : kwS tp wLast (.ok a) with
    | true =>
      refine And.intro (fun _ => ⟨rfl, S1.mono rfl rfl, ?_⟩) (fun q => absurd q (by decide))
      have hk0 : kw tp wLast a = true := hk
      show PX tp (askW tp wLast a) s1
      unfold askW
      rw [if_pos hk0]
      have : takS tp wLast (.ok a) = .ok (skp tp (a + wLast.length)) := if_pos hk0
      rw [this] at X1
      exact X1
    | false =>
      have hk0 : kw tp wLast a = false := hk
      have E2 : PO tp a a s1 := E1 hk
      refine And.intro (fun q => absurd rfl q) (fun _ => ?_)
      have hl := E2.1.len
      have ha := E2.2.2.2.2.1
      refine mcall (c_fail G g l (d+2) s1 tp (.ok a) ⟨a, E2⟩ _ _ 1 a rfl E2.2.2.1 (by omega) (by omega) (by omega)) (fun r s2 h8 => ?_)
      obtain ⟨rfl, S2, X2⟩ := h8
      refine ⟨rfl, (S1.mono rfl rfl).tr (S2.mono rfl rfl), ?_⟩
      show PX tp (askW tp wLast a) s2
      unfold askW
      rw [if_neg (by rw [hk0]; decide)]
      exact X2
set_option maxHeartbeats 1000000 in
theorem c_isHere_248 (tp : List Nat) (S : Pos) (h : PX tp S σ) (hw : Wd 248 wOften σ) : MC G g l (d+2) mX6_isHere [tM, .inr (.inr (some (.inl 248)))] σ (fun r t => r = some (iv (bI (kwS tp wOften S))) ∧ mS [2] [] σ t ∧ PE tp S t) := by
  refine MC1 tX6_isHere [12, 17, 29, 40] rfl okX6_isHere rfl rfl rfl rfl (fun P hP => ?_)
  have no : ∀ τ, kwS tp wOften S = false → mS [2] [] σ τ → PE tp S τ → P 12 [some tM, some (.inr (.inr (some (.inl 248)))), none, none] [] τ := fun τ e hS hE => hP _ _ _ _ ⟨nar0, by rw [e]; rfl, hS, hE⟩
  refine hP _ _ _ _ ?_
  cases S with
  | error f =>
    refine And.intro (fun _ => no σ rfl mS.rf h) (fun q => absurd q (pf_bad h))
  | ok a =>
    obtain ⟨a', h9⟩ := h
    refine And.intro (fun q => absurd h9.2.1 q) (fun _ => ?_)
    refine mcall (c_look G g l d σ tp a a' h9) (fun r s1 h8 => ?_)
    obtain ⟨rfl, S1, O1⟩ := h8
    have hw1 : Wd 248 wOften s1 := hw.keep S1 rfl rfl
    obtain ⟨p1, p2, p3, p4, p5, p6, e, p7, p8, p9, p10⟩ := O1
    have O1 : PO tp a a s1 := ⟨p1, p2, p3, p4, p5, p6, e, p7, p8, p9, p10⟩
    have hl := p1.len
    refine mcall (c_isLetter G g l d s1 (byI tp a)) (fun r s2 h8 => ?_)
    obtain ⟨rfl, rfl⟩ := h8
    rw [letB p1.1 a]
    cases hL : isAt isL tp a with
    | false => exact And.intro (fun _ => no s2 (by show kw tp wOften a = false; unfold kw; rw [hL]; rfl) S1 O1) (fun q => absurd rfl q)
    | true =>
      refine And.intro (fun q => absurd q (by decide)) (fun _ => And.intro (fun q => ?_) (fun q => ?_))
      · have hpr : prLD tp a = false := pr_ne p3 p7 p9 (by omega) (by omega) q
        have at17 : ∀ (m k : Nat), k + m = wEn tp a → a ≤ k → P 17 [some tM, some (.inr (.inr (some (.inl 248)))), some (iv (nI k)), none] [] s2 := by
          intro m
          have hwl : wEn tp a ≤ tp.length := endE_le isL p5
          have h3 : gI s2 200 3 = nI tp.length := p1.2
          have fin : ∀ k, k = wEn tp a → P 17 [some tM, some (.inr (.inr (some (.inl 248)))), some (iv (nI k)), none] [] s2 := by
            intro k hk
            subst hk
            have aw : a ≤ wEn tp a := endE_ge isL tp a
            have ed : nI (wEn tp a) - gI s2 200 2 = nI (wEn tp a - a) := by rw [p3]; exact nI_s1 _ _ aw
            have hsl := sub_len (tp := tp) (a := a) hwl
            have kwe : kw tp wOften a = decide (sub_ tp a (wEn tp a) = wOften) := by unfold kw; rw [hL, hpr]; rfl
            have at29 : P 29 [some tM, some (.inr (.inr (some (.inl 248)))), some (iv (nI (wEn tp a))), none] [] s2 := by
              refine hP _ _ _ _ (And.intro (fun q => ?_) (fun q => ⟨nar0, ?_, S1, O1⟩))
              · have q0 : nI (wEn tp a) - gI s2 200 2 = nI 5 := q
                rw [ed, nI_eq (by omega) (by omega)] at q0
                have at40 : ∀ (m i : Nat), i + m = 5 → (∀ j, j < i → tp[a + j]? = wOften[j]?) → P 40 [some tM, some (.inr (.inr (some (.inl 248)))), some (iv (nI (wEn tp a))), some (iv (nI i))] [] s2 := by
                  intro m
                  induction m with
                  | zero =>
                    intro i hi hall
                    refine hP _ _ _ _ (And.intro (fun _ => ⟨nar1, ?_, S1, O1⟩) (fun q => absurd (show nI 5 ≤ nI i from nI_le (by omega) (by omega)) q))
                    rw [show kwS tp wOften (.ok a) = true from ?_]
                    · rfl
                    · show kw tp wOften a = true
                      rw [kwe]
                      refine decide_eq_true (List.ext_getElem? (fun j => ?_))
                      by_cases hj : j < 5
                      · rw [sub_get (by omega)]; exact hall j (by omega)
                      · rw [List.getElem?_eq_none (by omega), List.getElem?_eq_none (show wOften.length ≤ j by show 5 ≤ j; omega)]
                  | succ m ih =>
                    intro i hi hall
                    have hil : a + i < tp.length := by omega
                    obtain ⟨c, hc⟩ : ∃ c, tp[a + i]? = some c := ⟨_, List.getElem?_eq_getElem hil⟩
                    obtain ⟨u, hu⟩ : ∃ u, wOften[i]? = some u := ⟨_, List.getElem?_eq_getElem (show i < wOften.length by show i < 5; omega)⟩
                    have hv := p1.1.2 _ c hc
                    have hu2 := hw1.1 i u hu
                    have ei : gI s2 200 2 + nI i = nI (a + i) := by rw [p3, nI_add]
                    have g1 : gI s2 201 (gI s2 200 2 + nI i).toNatClampNeg = nI c := by rw [ei, clN (by omega), hv.1]
                    have g2 : gI s2 248 (nI i).toNatClampNeg = nI u := by rw [clN (by omega), hu2]
                    have hub := hw1.2 u (List.mem_of_getElem? hu)
                    refine hP _ _ _ _ (And.intro (fun q => absurd q (show ¬ nI 5 ≤ nI i from nI_ge (by omega) (by omega))) (fun _ => And.intro (show vp_in (gI s2 200 2 + nI i) 1600 from by rw [ei]; exact vinN (by omega) (by decide)) (And.intro (show vp_in (nI i) 5 from vinN (by omega) (by decide)) (And.intro (fun q => ?_) (fun q => ⟨nar0, ?_, S1, O1⟩)))))
                    · have q1 : gI s2 201 (gI s2 200 2 + nI i).toNatClampNeg = gI s2 248 (nI i).toNatClampNeg := q
                      rw [g1, g2, nI_eq (by omega) (by omega)] at q1
                      show P 40 [some tM, some (.inr (.inr (some (.inl 248)))), some (iv (nI (wEn tp a))), some (iv (nI i + nI 1))] [] s2
                      rw [nI_add]
                      refine ih (i+1) (by omega) (fun j hj => ?_)
                      by_cases ej : j = i
                      · rw [ej, hc, hu, q1]
                      · exact hall j (by omega)
                    · have q1 : ¬ gI s2 201 (gI s2 200 2 + nI i).toNatClampNeg = gI s2 248 (nI i).toNatClampNeg := q
                      rw [g1, g2, nI_eq (by omega) (by omega)] at q1
                      rw [show kwS tp wOften (.ok a) = false from ?_]
                      · rfl
                      · show kw tp wOften a = false
                        rw [kwe]
                        refine decide_eq_false (fun e9 => q1 ?_)
                        have := sub_get (tp := tp) (a := a) (b := wEn tp a) (i := i) (by omega)
                        rw [e9, hc, hu] at this
                        cases this
                        rfl
                exact at40 5 0 (by omega) (fun j hj => absurd hj (Nat.not_lt_zero _))
              · have q0 : ¬ nI (wEn tp a) - gI s2 200 2 = nI 5 := q
                rw [ed, nI_eq (by omega) (by omega)] at q0
                rw [show kwS tp wOften (.ok a) = false from ?_]
                · rfl
                · show kw tp wOften a = false
                  rw [kwe]
                  refine decide_eq_false (fun e9 => q0 ?_)
                  rw [← hsl, e9]
                  rfl
            refine hP _ _ _ _ (And.intro (fun _ => at29) (fun q => ?_))
            have q0 : ¬ gI s2 200 3 ≤ nI (wEn tp a) := q
            rw [h3, nI_leI (by omega) (by omega)] at q0
            obtain ⟨c, hc⟩ : ∃ c, tp[wEn tp a]? = some c := ⟨_, List.getElem?_eq_getElem (by omega)⟩
            have hv := p1.1.2 _ c hc
            refine And.intro (show vp_in (nI (wEn tp a)) 1600 from vinN (by omega) (by decide)) ?_
            refine mcall (c_isLetter G g l d s2 _) (fun r s3 h8 => ?_)
            obtain ⟨rfl, rfl⟩ := h8
            rw [show gI s3 201 (nI (wEn tp a)).toNatClampNeg = byI tp (wEn tp a) by rw [clN (by omega), hv.1]; unfold byI; rw [hc]]
            rw [letB p1.1, show isAt isL tp (wEn tp a) = false from endE_end isL tp a]
            exact And.intro (fun _ => at29) (fun q => absurd rfl q)
          induction m with
          | zero => intro k hk hak; exact fin k (by omega)
          | succ m ih =>
            intro k hk hak
            have hkL : isAt isL tp k = true := endE_in (p := isL) (a := a) hak (by show k < wEn tp a; omega)
            have hkl := isAt_lt hkL
            obtain ⟨c, hc⟩ : ∃ c, tp[k]? = some c := ⟨_, List.getElem?_eq_getElem hkl⟩
            have hv := p1.1.2 _ c hc
            refine hP _ _ _ _ (And.intro (fun q => ?_) (fun _ => And.intro (show vp_in (nI k) 1600 from vinN (by omega) (by decide)) ?_))
            · have q0 : gI s2 200 3 ≤ nI k := q
              rw [h3, nI_leI (by omega) (by omega)] at q0
              omega
            refine mcall (c_isLetter G g l d s2 _) (fun r s3 h8 => ?_)
            obtain ⟨rfl, rfl⟩ := h8
            rw [show gI s3 201 (nI k).toNatClampNeg = byI tp k by rw [clN (by omega), hv.1]; unfold byI; rw [hc]]
            rw [letB p1.1, hkL]
            refine And.intro (fun q => absurd q (by decide)) (fun _ => ?_)
            show P 17 [some tM, some (.inr (.inr (some (.inl 248)))), some (iv (nI k + nI 1)), none] [] s3
            rw [nI_add]
            exact ih (k+1) (by omega) (by omega)
        show P 17 [some tM, some (.inr (.inr (some (.inl 248)))), some (iv (gI s2 200 2)), none] [] s2
        rw [p3]
        exact at17 (wEn tp a - a) a (by have := endE_ge isL tp a; show a + (endE isL tp a - a) = endE isL tp a; omega) (Nat.le_refl _)
      · have hpr : prLD tp a = true := pr_eq p3 p7 p9 (by omega) (by omega) q
        exact no s2 (by show kw tp wOften a = false; unfold kw; rw [hL, hpr]; rfl) S1 O1
theorem c_takes_248 (tp : List Nat) (S : Pos) (h : PX tp S σ) (hw : Wd 248 wOften σ) : MC G g l (d+3) mX6_takes [tM, .inr (.inr (some (.inl 248)))] σ (fun r t => r = some (iv (bI (kwS tp wOften S))) ∧ mS [2, 4] [] σ t ∧ PX tp (takS tp wOften S) t ∧ (kwS tp wOften S = false → PE tp S t)) := by
  refine MC0 tX6_takes rfl okX6_takes rfl rfl rfl rfl (fun P => ?_)
  refine mcall (c_isHere_248 G g l d σ tp S h hw) (fun r s1 h8 => ?_)
  obtain ⟨rfl, S1, E1⟩ := h8
  cases hk : kwS tp wOften S with
  | false => exact And.intro (fun q => absurd rfl q) (fun _ => ⟨nar0, rfl, S1.mono rfl rfl, takS_no hk E1, fun _ => E1⟩)
  | true =>
    refine And.intro (fun _ => ⟨nar1, rfl, ((S1.mono rfl rfl).f rfl).f rfl, ?_, fun q => by cases q⟩) (fun q => absurd q (by decide))
    exact takS_yes (n := 5) hk E1 rfl
theorem c_asks_248 (tp : List Nat) (S : Pos) (h : PX tp S σ) (hw : Wd 248 wOften σ) : MC G g l (d+4) mX6_asks [tM, .inr (.inr (some (.inl 248)))] σ (fun r t => r = none ∧ mS [2, 4, 5, 6] [] σ t ∧ PX tp (match S with
      | .ok a => askW tp wOften a
      | .error f => .error f) t) := by
  refine MC0 tX6_asks rfl okX6_asks rfl rfl rfl rfl (fun P => ?_)
  cases S with
  | error f => exact And.intro (fun _ => ⟨rfl, mS.rf, h⟩) (fun q => absurd q (pf_bad h))
  | ok a =>
    have p2 := h.elim (fun a' h => h.2.1)
    refine And.intro (fun q => absurd p2 q) (fun _ => ?_)
    refine mcall (c_takes_248 G g l d σ tp (.ok a) h hw) (fun r s1 h8 => ?_)
    obtain ⟨rfl, S1, X1, E1⟩ := h8
    cases hk : kwS tp wOften (.ok a) with
    | true =>
      refine And.intro (fun _ => ⟨rfl, S1.mono rfl rfl, ?_⟩) (fun q => absurd q (by decide))
      have hk0 : kw tp wOften a = true := hk
      show PX tp (askW tp wOften a) s1
      unfold askW
      rw [if_pos hk0]
      have : takS tp wOften (.ok a) = .ok (skp tp (a + wOften.length)) := if_pos hk0
      rw [this] at X1
      exact X1
    | false =>
      have hk0 : kw tp wOften a = false := hk
      have E2 : PO tp a a s1 := E1 hk
      refine And.intro (fun q => absurd rfl q) (fun _ => ?_)
      have hl := E2.1.len
      have ha := E2.2.2.2.2.1
      refine mcall (c_fail G g l (d+2) s1 tp (.ok a) ⟨a, E2⟩ _ _ 1 a rfl E2.2.2.1 (by omega) (by omega) (by omega)) (fun r s2 h8 => ?_)
      obtain ⟨rfl, S2, X2⟩ := h8
      refine ⟨rfl, (S1.mono rfl rfl).tr (S2.mono rfl rfl), ?_⟩
      show PX tp (askW tp wOften a) s2
      unfold askW
      rw [if_neg (by rw [hk0]; decide)]
      exact X2
set_option maxHeartbeats 1000000 in
theorem c_isHere_249 (tp : List Nat) (S : Pos) (h : PX tp S σ) (hw : Wd 249 wTotal σ) : MC G g l (d+2) mX6_isHere [tM, .inr (.inr (some (.inl 249)))] σ (fun r t => r = some (iv (bI (kwS tp wTotal S))) ∧ mS [2] [] σ t ∧ PE tp S t) := by
  refine MC1 tX6_isHere [12, 17, 29, 40] rfl okX6_isHere rfl rfl rfl rfl (fun P hP => ?_)
  have no : ∀ τ, kwS tp wTotal S = false → mS [2] [] σ τ → PE tp S τ → P 12 [some tM, some (.inr (.inr (some (.inl 249)))), none, none] [] τ := fun τ e hS hE => hP _ _ _ _ ⟨nar0, by rw [e]; rfl, hS, hE⟩
  refine hP _ _ _ _ ?_
  cases S with
  | error f =>
    refine And.intro (fun _ => no σ rfl mS.rf h) (fun q => absurd q (pf_bad h))
  | ok a =>
    obtain ⟨a', h9⟩ := h
    refine And.intro (fun q => absurd h9.2.1 q) (fun _ => ?_)
    refine mcall (c_look G g l d σ tp a a' h9) (fun r s1 h8 => ?_)
    obtain ⟨rfl, S1, O1⟩ := h8
    have hw1 : Wd 249 wTotal s1 := hw.keep S1 rfl rfl
    obtain ⟨p1, p2, p3, p4, p5, p6, e, p7, p8, p9, p10⟩ := O1
    have O1 : PO tp a a s1 := ⟨p1, p2, p3, p4, p5, p6, e, p7, p8, p9, p10⟩
    have hl := p1.len
    refine mcall (c_isLetter G g l d s1 (byI tp a)) (fun r s2 h8 => ?_)
    obtain ⟨rfl, rfl⟩ := h8
    rw [letB p1.1 a]
    cases hL : isAt isL tp a with
    | false => exact And.intro (fun _ => no s2 (by show kw tp wTotal a = false; unfold kw; rw [hL]; rfl) S1 O1) (fun q => absurd rfl q)
    | true =>
      refine And.intro (fun q => absurd q (by decide)) (fun _ => And.intro (fun q => ?_) (fun q => ?_))
      · have hpr : prLD tp a = false := pr_ne p3 p7 p9 (by omega) (by omega) q
        have at17 : ∀ (m k : Nat), k + m = wEn tp a → a ≤ k → P 17 [some tM, some (.inr (.inr (some (.inl 249)))), some (iv (nI k)), none] [] s2 := by
          intro m
          have hwl : wEn tp a ≤ tp.length := endE_le isL p5
          have h3 : gI s2 200 3 = nI tp.length := p1.2
          have fin : ∀ k, k = wEn tp a → P 17 [some tM, some (.inr (.inr (some (.inl 249)))), some (iv (nI k)), none] [] s2 := by
            intro k hk
            subst hk
            have aw : a ≤ wEn tp a := endE_ge isL tp a
            have ed : nI (wEn tp a) - gI s2 200 2 = nI (wEn tp a - a) := by rw [p3]; exact nI_s1 _ _ aw
            have hsl := sub_len (tp := tp) (a := a) hwl
            have kwe : kw tp wTotal a = decide (sub_ tp a (wEn tp a) = wTotal) := by unfold kw; rw [hL, hpr]; rfl
            have at29 : P 29 [some tM, some (.inr (.inr (some (.inl 249)))), some (iv (nI (wEn tp a))), none] [] s2 := by
              refine hP _ _ _ _ (And.intro (fun q => ?_) (fun q => ⟨nar0, ?_, S1, O1⟩))
              · have q0 : nI (wEn tp a) - gI s2 200 2 = nI 5 := q
                rw [ed, nI_eq (by omega) (by omega)] at q0
                have at40 : ∀ (m i : Nat), i + m = 5 → (∀ j, j < i → tp[a + j]? = wTotal[j]?) → P 40 [some tM, some (.inr (.inr (some (.inl 249)))), some (iv (nI (wEn tp a))), some (iv (nI i))] [] s2 := by
                  intro m
                  induction m with
                  | zero =>
                    intro i hi hall
                    refine hP _ _ _ _ (And.intro (fun _ => ⟨nar1, ?_, S1, O1⟩) (fun q => absurd (show nI 5 ≤ nI i from nI_le (by omega) (by omega)) q))
                    rw [show kwS tp wTotal (.ok a) = true from ?_]
                    · rfl
                    · show kw tp wTotal a = true
                      rw [kwe]
                      refine decide_eq_true (List.ext_getElem? (fun j => ?_))
                      by_cases hj : j < 5
                      · rw [sub_get (by omega)]; exact hall j (by omega)
                      · rw [List.getElem?_eq_none (by omega), List.getElem?_eq_none (show wTotal.length ≤ j by show 5 ≤ j; omega)]
                  | succ m ih =>
                    intro i hi hall
                    have hil : a + i < tp.length := by omega
                    obtain ⟨c, hc⟩ : ∃ c, tp[a + i]? = some c := ⟨_, List.getElem?_eq_getElem hil⟩
                    obtain ⟨u, hu⟩ : ∃ u, wTotal[i]? = some u := ⟨_, List.getElem?_eq_getElem (show i < wTotal.length by show i < 5; omega)⟩
                    have hv := p1.1.2 _ c hc
                    have hu2 := hw1.1 i u hu
                    have ei : gI s2 200 2 + nI i = nI (a + i) := by rw [p3, nI_add]
                    have g1 : gI s2 201 (gI s2 200 2 + nI i).toNatClampNeg = nI c := by rw [ei, clN (by omega), hv.1]
                    have g2 : gI s2 249 (nI i).toNatClampNeg = nI u := by rw [clN (by omega), hu2]
                    have hub := hw1.2 u (List.mem_of_getElem? hu)
                    refine hP _ _ _ _ (And.intro (fun q => absurd q (show ¬ nI 5 ≤ nI i from nI_ge (by omega) (by omega))) (fun _ => And.intro (show vp_in (gI s2 200 2 + nI i) 1600 from by rw [ei]; exact vinN (by omega) (by decide)) (And.intro (show vp_in (nI i) 5 from vinN (by omega) (by decide)) (And.intro (fun q => ?_) (fun q => ⟨nar0, ?_, S1, O1⟩)))))
                    · have q1 : gI s2 201 (gI s2 200 2 + nI i).toNatClampNeg = gI s2 249 (nI i).toNatClampNeg := q
                      rw [g1, g2, nI_eq (by omega) (by omega)] at q1
                      show P 40 [some tM, some (.inr (.inr (some (.inl 249)))), some (iv (nI (wEn tp a))), some (iv (nI i + nI 1))] [] s2
                      rw [nI_add]
                      refine ih (i+1) (by omega) (fun j hj => ?_)
                      by_cases ej : j = i
                      · rw [ej, hc, hu, q1]
                      · exact hall j (by omega)
                    · have q1 : ¬ gI s2 201 (gI s2 200 2 + nI i).toNatClampNeg = gI s2 249 (nI i).toNatClampNeg := q
                      rw [g1, g2, nI_eq (by omega) (by omega)] at q1
                      rw [show kwS tp wTotal (.ok a) = false from ?_]
                      · rfl
                      · show kw tp wTotal a = false
                        rw [kwe]
                        refine decide_eq_false (fun e9 => q1 ?_)
                        have := sub_get (tp := tp) (a := a) (b := wEn tp a) (i := i) (by omega)
                        rw [e9, hc, hu] at this
                        cases this
                        rfl
                exact at40 5 0 (by omega) (fun j hj => absurd hj (Nat.not_lt_zero _))
              · have q0 : ¬ nI (wEn tp a) - gI s2 200 2 = nI 5 := q
                rw [ed, nI_eq (by omega) (by omega)] at q0
                rw [show kwS tp wTotal (.ok a) = false from ?_]
                · rfl
                · show kw tp wTotal a = false
                  rw [kwe]
                  refine decide_eq_false (fun e9 => q0 ?_)
                  rw [← hsl, e9]
                  rfl
            refine hP _ _ _ _ (And.intro (fun _ => at29) (fun q => ?_))
            have q0 : ¬ gI s2 200 3 ≤ nI (wEn tp a) := q
            rw [h3, nI_leI (by omega) (by omega)] at q0
            obtain ⟨c, hc⟩ : ∃ c, tp[wEn tp a]? = some c := ⟨_, List.getElem?_eq_getElem (by omega)⟩
            have hv := p1.1.2 _ c hc
            refine And.intro (show vp_in (nI (wEn tp a)) 1600 from vinN (by omega) (by decide)) ?_
            refine mcall (c_isLetter G g l d s2 _) (fun r s3 h8 => ?_)
            obtain ⟨rfl, rfl⟩ := h8
            rw [show gI s3 201 (nI (wEn tp a)).toNatClampNeg = byI tp (wEn tp a) by rw [clN (by omega), hv.1]; unfold byI; rw [hc]]
            rw [letB p1.1, show isAt isL tp (wEn tp a) = false from endE_end isL tp a]
            exact And.intro (fun _ => at29) (fun q => absurd rfl q)
          induction m with
          | zero => intro k hk hak; exact fin k (by omega)
          | succ m ih =>
            intro k hk hak
            have hkL : isAt isL tp k = true := endE_in (p := isL) (a := a) hak (by show k < wEn tp a; omega)
            have hkl := isAt_lt hkL
            obtain ⟨c, hc⟩ : ∃ c, tp[k]? = some c := ⟨_, List.getElem?_eq_getElem hkl⟩
            have hv := p1.1.2 _ c hc
            refine hP _ _ _ _ (And.intro (fun q => ?_) (fun _ => And.intro (show vp_in (nI k) 1600 from vinN (by omega) (by decide)) ?_))
            · have q0 : gI s2 200 3 ≤ nI k := q
              rw [h3, nI_leI (by omega) (by omega)] at q0
              omega
            refine mcall (c_isLetter G g l d s2 _) (fun r s3 h8 => ?_)
            obtain ⟨rfl, rfl⟩ := h8
            rw [show gI s3 201 (nI k).toNatClampNeg = byI tp k by rw [clN (by omega), hv.1]; unfold byI; rw [hc]]
            rw [letB p1.1, hkL]
            refine And.intro (fun q => absurd q (by decide)) (fun _ => ?_)
            show P 17 [some tM, some (.inr (.inr (some (.inl 249)))), some (iv (nI k + nI 1)), none] [] s3
            rw [nI_add]
            exact ih (k+1) (by omega) (by omega)
        show P 17 [some tM, some (.inr (.inr (some (.inl 249)))), some (iv (gI s2 200 2)), none] [] s2
        rw [p3]
        exact at17 (wEn tp a - a) a (by have := endE_ge isL tp a; show a + (endE isL tp a - a) = endE isL tp a; omega) (Nat.le_refl _)
      · have hpr : prLD tp a = true := pr_eq p3 p7 p9 (by omega) (by omega) q
        exact no s2 (by show kw tp wTotal a = false; unfold kw; rw [hL, hpr]; rfl) S1 O1
theorem c_takes_249 (tp : List Nat) (S : Pos) (h : PX tp S σ) (hw : Wd 249 wTotal σ) : MC G g l (d+3) mX6_takes [tM, .inr (.inr (some (.inl 249)))] σ (fun r t => r = some (iv (bI (kwS tp wTotal S))) ∧ mS [2, 4] [] σ t ∧ PX tp (takS tp wTotal S) t ∧ (kwS tp wTotal S = false → PE tp S t)) := by
  refine MC0 tX6_takes rfl okX6_takes rfl rfl rfl rfl (fun P => ?_)
  refine mcall (c_isHere_249 G g l d σ tp S h hw) (fun r s1 h8 => ?_)
  obtain ⟨rfl, S1, E1⟩ := h8
  cases hk : kwS tp wTotal S with
  | false => exact And.intro (fun q => absurd rfl q) (fun _ => ⟨nar0, rfl, S1.mono rfl rfl, takS_no hk E1, fun _ => E1⟩)
  | true =>
    refine And.intro (fun _ => ⟨nar1, rfl, ((S1.mono rfl rfl).f rfl).f rfl, ?_, fun q => by cases q⟩) (fun q => absurd q (by decide))
    exact takS_yes (n := 5) hk E1 rfl
theorem c_asks_249 (tp : List Nat) (S : Pos) (h : PX tp S σ) (hw : Wd 249 wTotal σ) : MC G g l (d+4) mX6_asks [tM, .inr (.inr (some (.inl 249)))] σ (fun r t => r = none ∧ mS [2, 4, 5, 6] [] σ t ∧ PX tp (match S with
      | .ok a => askW tp wTotal a
      | .error f => .error f) t) := by
  refine MC0 tX6_asks rfl okX6_asks rfl rfl rfl rfl (fun P => ?_)
  cases S with
  | error f => exact And.intro (fun _ => ⟨rfl, mS.rf, h⟩) (fun q => absurd q (pf_bad h))
  | ok a =>
    have p2 := h.elim (fun a' h => h.2.1)
    refine And.intro (fun q => absurd p2 q) (fun _ => ?_)
    refine mcall (c_takes_249 G g l d σ tp (.ok a) h hw) (fun r s1 h8 => ?_)
    obtain ⟨rfl, S1, X1, E1⟩ := h8
    cases hk : kwS tp wTotal (.ok a) with
    | true =>
      refine And.intro (fun _ => ⟨rfl, S1.mono rfl rfl, ?_⟩) (fun q => absurd q (by decide))
      have hk0 : kw tp wTotal a = true := hk
      show PX tp (askW tp wTotal a) s1
      unfold askW
      rw [if_pos hk0]
      have : takS tp wTotal (.ok a) = .ok (skp tp (a + wTotal.length)) := if_pos hk0
      rw [this] at X1
      exact X1
    | false =>
      have hk0 : kw tp wTotal a = false := hk
      have E2 : PO tp a a s1 := E1 hk
      refine And.intro (fun q => absurd rfl q) (fun _ => ?_)
      have hl := E2.1.len
      have ha := E2.2.2.2.2.1
      refine mcall (c_fail G g l (d+2) s1 tp (.ok a) ⟨a, E2⟩ _ _ 1 a rfl E2.2.2.1 (by omega) (by omega) (by omega)) (fun r s2 h8 => ?_)
      obtain ⟨rfl, S2, X2⟩ := h8
      refine ⟨rfl, (S1.mono rfl rfl).tr (S2.mono rfl rfl), ?_⟩
      show PX tp (askW tp wTotal a) s2
      unfold askW
      rw [if_neg (by rw [hk0]; decide)]
      exact X2
set_option maxHeartbeats 1000000 in
theorem c_isHere_250 (tp : List Nat) (S : Pos) (h : PX tp S σ) (hw : Wd 250 wMost σ) : MC G g l (d+2) mX6_isHere [tM, .inr (.inr (some (.inl 250)))] σ (fun r t => r = some (iv (bI (kwS tp wMost S))) ∧ mS [2] [] σ t ∧ PE tp S t) := by
  refine MC1 tX6_isHere [12, 17, 29, 40] rfl okX6_isHere rfl rfl rfl rfl (fun P hP => ?_)
  have no : ∀ τ, kwS tp wMost S = false → mS [2] [] σ τ → PE tp S τ → P 12 [some tM, some (.inr (.inr (some (.inl 250)))), none, none] [] τ := fun τ e hS hE => hP _ _ _ _ ⟨nar0, by rw [e]; rfl, hS, hE⟩
  refine hP _ _ _ _ ?_
  cases S with
  | error f =>
    refine And.intro (fun _ => no σ rfl mS.rf h) (fun q => absurd q (pf_bad h))
  | ok a =>
    obtain ⟨a', h9⟩ := h
    refine And.intro (fun q => absurd h9.2.1 q) (fun _ => ?_)
    refine mcall (c_look G g l d σ tp a a' h9) (fun r s1 h8 => ?_)
    obtain ⟨rfl, S1, O1⟩ := h8
    have hw1 : Wd 250 wMost s1 := hw.keep S1 rfl rfl
    obtain ⟨p1, p2, p3, p4, p5, p6, e, p7, p8, p9, p10⟩ := O1
    have O1 : PO tp a a s1 := ⟨p1, p2, p3, p4, p5, p6, e, p7, p8, p9, p10⟩
    have hl := p1.len
    refine mcall (c_isLetter G g l d s1 (byI tp a)) (fun r s2 h8 => ?_)
    obtain ⟨rfl, rfl⟩ := h8
    rw [letB p1.1 a]
    cases hL : isAt isL tp a with
    | false => exact And.intro (fun _ => no s2 (by show kw tp wMost a = false; unfold kw; rw [hL]; rfl) S1 O1) (fun q => absurd rfl q)
    | true =>
      refine And.intro (fun q => absurd q (by decide)) (fun _ => And.intro (fun q => ?_) (fun q => ?_))
      · have hpr : prLD tp a = false := pr_ne p3 p7 p9 (by omega) (by omega) q
        have at17 : ∀ (m k : Nat), k + m = wEn tp a → a ≤ k → P 17 [some tM, some (.inr (.inr (some (.inl 250)))), some (iv (nI k)), none] [] s2 := by
          intro m
          have hwl : wEn tp a ≤ tp.length := endE_le isL p5
          have h3 : gI s2 200 3 = nI tp.length := p1.2
          have fin : ∀ k, k = wEn tp a → P 17 [some tM, some (.inr (.inr (some (.inl 250)))), some (iv (nI k)), none] [] s2 := by
            intro k hk
            subst hk
            have aw : a ≤ wEn tp a := endE_ge isL tp a
            have ed : nI (wEn tp a) - gI s2 200 2 = nI (wEn tp a - a) := by rw [p3]; exact nI_s1 _ _ aw
            have hsl := sub_len (tp := tp) (a := a) hwl
            have kwe : kw tp wMost a = decide (sub_ tp a (wEn tp a) = wMost) := by unfold kw; rw [hL, hpr]; rfl
            have at29 : P 29 [some tM, some (.inr (.inr (some (.inl 250)))), some (iv (nI (wEn tp a))), none] [] s2 := by
              refine hP _ _ _ _ (And.intro (fun q => ?_) (fun q => ⟨nar0, ?_, S1, O1⟩))
              · have q0 : nI (wEn tp a) - gI s2 200 2 = nI 4 := q
                rw [ed, nI_eq (by omega) (by omega)] at q0
                have at40 : ∀ (m i : Nat), i + m = 4 → (∀ j, j < i → tp[a + j]? = wMost[j]?) → P 40 [some tM, some (.inr (.inr (some (.inl 250)))), some (iv (nI (wEn tp a))), some (iv (nI i))] [] s2 := by
                  intro m
                  induction m with
                  | zero =>
                    intro i hi hall
                    refine hP _ _ _ _ (And.intro (fun _ => ⟨nar1, ?_, S1, O1⟩) (fun q => absurd (show nI 4 ≤ nI i from nI_le (by omega) (by omega)) q))
                    rw [show kwS tp wMost (.ok a) = true from ?_]
                    · rfl
                    · show kw tp wMost a = true
                      rw [kwe]
                      refine decide_eq_true (List.ext_getElem? (fun j => ?_))
                      by_cases hj : j < 4
                      · rw [sub_get (by omega)]; exact hall j (by omega)
                      · rw [List.getElem?_eq_none (by omega), List.getElem?_eq_none (show wMost.length ≤ j by show 4 ≤ j; omega)]
                  | succ m ih =>
                    intro i hi hall
                    have hil : a + i < tp.length := by omega
                    obtain ⟨c, hc⟩ : ∃ c, tp[a + i]? = some c := ⟨_, List.getElem?_eq_getElem hil⟩
                    obtain ⟨u, hu⟩ : ∃ u, wMost[i]? = some u := ⟨_, List.getElem?_eq_getElem (show i < wMost.length by show i < 4; omega)⟩
                    have hv := p1.1.2 _ c hc
                    have hu2 := hw1.1 i u hu
                    have ei : gI s2 200 2 + nI i = nI (a + i) := by rw [p3, nI_add]
                    have g1 : gI s2 201 (gI s2 200 2 + nI i).toNatClampNeg = nI c := by rw [ei, clN (by omega), hv.1]
                    have g2 : gI s2 250 (nI i).toNatClampNeg = nI u := by rw [clN (by omega), hu2]
                    have hub := hw1.2 u (List.mem_of_getElem? hu)
                    refine hP _ _ _ _ (And.intro (fun q => absurd q (show ¬ nI 4 ≤ nI i from nI_ge (by omega) (by omega))) (fun _ => And.intro (show vp_in (gI s2 200 2 + nI i) 1600 from by rw [ei]; exact vinN (by omega) (by decide)) (And.intro (show vp_in (nI i) 4 from vinN (by omega) (by decide)) (And.intro (fun q => ?_) (fun q => ⟨nar0, ?_, S1, O1⟩)))))
                    · have q1 : gI s2 201 (gI s2 200 2 + nI i).toNatClampNeg = gI s2 250 (nI i).toNatClampNeg := q
                      rw [g1, g2, nI_eq (by omega) (by omega)] at q1
                      show P 40 [some tM, some (.inr (.inr (some (.inl 250)))), some (iv (nI (wEn tp a))), some (iv (nI i + nI 1))] [] s2
                      rw [nI_add]
                      refine ih (i+1) (by omega) (fun j hj => ?_)
                      by_cases ej : j = i
                      · rw [ej, hc, hu, q1]
                      · exact hall j (by omega)
                    · have q1 : ¬ gI s2 201 (gI s2 200 2 + nI i).toNatClampNeg = gI s2 250 (nI i).toNatClampNeg := q
                      rw [g1, g2, nI_eq (by omega) (by omega)] at q1
                      rw [show kwS tp wMost (.ok a) = false from ?_]
                      · rfl
                      · show kw tp wMost a = false
                        rw [kwe]
                        refine decide_eq_false (fun e9 => q1 ?_)
                        have := sub_get (tp := tp) (a := a) (b := wEn tp a) (i := i) (by omega)
                        rw [e9, hc, hu] at this
                        cases this
                        rfl
                exact at40 4 0 (by omega) (fun j hj => absurd hj (Nat.not_lt_zero _))
              · have q0 : ¬ nI (wEn tp a) - gI s2 200 2 = nI 4 := q
                rw [ed, nI_eq (by omega) (by omega)] at q0
                rw [show kwS tp wMost (.ok a) = false from ?_]
                · rfl
                · show kw tp wMost a = false
                  rw [kwe]
                  refine decide_eq_false (fun e9 => q0 ?_)
                  rw [← hsl, e9]
                  rfl
            refine hP _ _ _ _ (And.intro (fun _ => at29) (fun q => ?_))
            have q0 : ¬ gI s2 200 3 ≤ nI (wEn tp a) := q
            rw [h3, nI_leI (by omega) (by omega)] at q0
            obtain ⟨c, hc⟩ : ∃ c, tp[wEn tp a]? = some c := ⟨_, List.getElem?_eq_getElem (by omega)⟩
            have hv := p1.1.2 _ c hc
            refine And.intro (show vp_in (nI (wEn tp a)) 1600 from vinN (by omega) (by decide)) ?_
            refine mcall (c_isLetter G g l d s2 _) (fun r s3 h8 => ?_)
            obtain ⟨rfl, rfl⟩ := h8
            rw [show gI s3 201 (nI (wEn tp a)).toNatClampNeg = byI tp (wEn tp a) by rw [clN (by omega), hv.1]; unfold byI; rw [hc]]
            rw [letB p1.1, show isAt isL tp (wEn tp a) = false from endE_end isL tp a]
            exact And.intro (fun _ => at29) (fun q => absurd rfl q)
          induction m with
          | zero => intro k hk hak; exact fin k (by omega)
          | succ m ih =>
            intro k hk hak
            have hkL : isAt isL tp k = true := endE_in (p := isL) (a := a) hak (by show k < wEn tp a; omega)
            have hkl := isAt_lt hkL
            obtain ⟨c, hc⟩ : ∃ c, tp[k]? = some c := ⟨_, List.getElem?_eq_getElem hkl⟩
            have hv := p1.1.2 _ c hc
            refine hP _ _ _ _ (And.intro (fun q => ?_) (fun _ => And.intro (show vp_in (nI k) 1600 from vinN (by omega) (by decide)) ?_))
            · have q0 : gI s2 200 3 ≤ nI k := q
              rw [h3, nI_leI (by omega) (by omega)] at q0
              omega
            refine mcall (c_isLetter G g l d s2 _) (fun r s3 h8 => ?_)
            obtain ⟨rfl, rfl⟩ := h8
            rw [show gI s3 201 (nI k).toNatClampNeg = byI tp k by rw [clN (by omega), hv.1]; unfold byI; rw [hc]]
            rw [letB p1.1, hkL]
            refine And.intro (fun q => absurd q (by decide)) (fun _ => ?_)
            show P 17 [some tM, some (.inr (.inr (some (.inl 250)))), some (iv (nI k + nI 1)), none] [] s3
            rw [nI_add]
            exact ih (k+1) (by omega) (by omega)
        show P 17 [some tM, some (.inr (.inr (some (.inl 250)))), some (iv (gI s2 200 2)), none] [] s2
        rw [p3]
        exact at17 (wEn tp a - a) a (by have := endE_ge isL tp a; show a + (endE isL tp a - a) = endE isL tp a; omega) (Nat.le_refl _)
      · have hpr : prLD tp a = true := pr_eq p3 p7 p9 (by omega) (by omega) q
        exact no s2 (by show kw tp wMost a = false; unfold kw; rw [hL, hpr]; rfl) S1 O1
theorem c_takes_250 (tp : List Nat) (S : Pos) (h : PX tp S σ) (hw : Wd 250 wMost σ) : MC G g l (d+3) mX6_takes [tM, .inr (.inr (some (.inl 250)))] σ (fun r t => r = some (iv (bI (kwS tp wMost S))) ∧ mS [2, 4] [] σ t ∧ PX tp (takS tp wMost S) t ∧ (kwS tp wMost S = false → PE tp S t)) := by
  refine MC0 tX6_takes rfl okX6_takes rfl rfl rfl rfl (fun P => ?_)
  refine mcall (c_isHere_250 G g l d σ tp S h hw) (fun r s1 h8 => ?_)
  obtain ⟨rfl, S1, E1⟩ := h8
  cases hk : kwS tp wMost S with
  | false => exact And.intro (fun q => absurd rfl q) (fun _ => ⟨nar0, rfl, S1.mono rfl rfl, takS_no hk E1, fun _ => E1⟩)
  | true =>
    refine And.intro (fun _ => ⟨nar1, rfl, ((S1.mono rfl rfl).f rfl).f rfl, ?_, fun q => by cases q⟩) (fun q => absurd q (by decide))
    exact takS_yes (n := 4) hk E1 rfl
theorem c_asks_250 (tp : List Nat) (S : Pos) (h : PX tp S σ) (hw : Wd 250 wMost σ) : MC G g l (d+4) mX6_asks [tM, .inr (.inr (some (.inl 250)))] σ (fun r t => r = none ∧ mS [2, 4, 5, 6] [] σ t ∧ PX tp (match S with
      | .ok a => askW tp wMost a
      | .error f => .error f) t) := by
  refine MC0 tX6_asks rfl okX6_asks rfl rfl rfl rfl (fun P => ?_)
  cases S with
  | error f => exact And.intro (fun _ => ⟨rfl, mS.rf, h⟩) (fun q => absurd q (pf_bad h))
  | ok a =>
    have p2 := h.elim (fun a' h => h.2.1)
    refine And.intro (fun q => absurd p2 q) (fun _ => ?_)
    refine mcall (c_takes_250 G g l d σ tp (.ok a) h hw) (fun r s1 h8 => ?_)
    obtain ⟨rfl, S1, X1, E1⟩ := h8
    cases hk : kwS tp wMost (.ok a) with
    | true =>
      refine And.intro (fun _ => ⟨rfl, S1.mono rfl rfl, ?_⟩) (fun q => absurd q (by decide))
      have hk0 : kw tp wMost a = true := hk
      show PX tp (askW tp wMost a) s1
      unfold askW
      rw [if_pos hk0]
      have : takS tp wMost (.ok a) = .ok (skp tp (a + wMost.length)) := if_pos hk0
      rw [this] at X1
      exact X1
    | false =>
      have hk0 : kw tp wMost a = false := hk
      have E2 : PO tp a a s1 := E1 hk
      refine And.intro (fun q => absurd rfl q) (fun _ => ?_)
      have hl := E2.1.len
      have ha := E2.2.2.2.2.1
      refine mcall (c_fail G g l (d+2) s1 tp (.ok a) ⟨a, E2⟩ _ _ 1 a rfl E2.2.2.1 (by omega) (by omega) (by omega)) (fun r s2 h8 => ?_)
      obtain ⟨rfl, S2, X2⟩ := h8
      refine ⟨rfl, (S1.mono rfl rfl).tr (S2.mono rfl rfl), ?_⟩
      show PX tp (askW tp wMost a) s2
      unfold askW
      rw [if_neg (by rw [hk0]; decide)]
      exact X2
set_option maxHeartbeats 1000000 in
theorem c_isHere_251 (tp : List Nat) (S : Pos) (h : PX tp S σ) (hw : Wd 251 wLeast σ) : MC G g l (d+2) mX6_isHere [tM, .inr (.inr (some (.inl 251)))] σ (fun r t => r = some (iv (bI (kwS tp wLeast S))) ∧ mS [2] [] σ t ∧ PE tp S t) := by
  refine MC1 tX6_isHere [12, 17, 29, 40] rfl okX6_isHere rfl rfl rfl rfl (fun P hP => ?_)
  have no : ∀ τ, kwS tp wLeast S = false → mS [2] [] σ τ → PE tp S τ → P 12 [some tM, some (.inr (.inr (some (.inl 251)))), none, none] [] τ := fun τ e hS hE => hP _ _ _ _ ⟨nar0, by rw [e]; rfl, hS, hE⟩
  refine hP _ _ _ _ ?_
  cases S with
  | error f =>
    refine And.intro (fun _ => no σ rfl mS.rf h) (fun q => absurd q (pf_bad h))
  | ok a =>
    obtain ⟨a', h9⟩ := h
    refine And.intro (fun q => absurd h9.2.1 q) (fun _ => ?_)
    refine mcall (c_look G g l d σ tp a a' h9) (fun r s1 h8 => ?_)
    obtain ⟨rfl, S1, O1⟩ := h8
    have hw1 : Wd 251 wLeast s1 := hw.keep S1 rfl rfl
    obtain ⟨p1, p2, p3, p4, p5, p6, e, p7, p8, p9, p10⟩ := O1
    have O1 : PO tp a a s1 := ⟨p1, p2, p3, p4, p5, p6, e, p7, p8, p9, p10⟩
    have hl := p1.len
    refine mcall (c_isLetter G g l d s1 (byI tp a)) (fun r s2 h8 => ?_)
    obtain ⟨rfl, rfl⟩ := h8
    rw [letB p1.1 a]
    cases hL : isAt isL tp a with
    | false => exact And.intro (fun _ => no s2 (by show kw tp wLeast a = false; unfold kw; rw [hL]; rfl) S1 O1) (fun q => absurd rfl q)
    | true =>
      refine And.intro (fun q => absurd q (by decide)) (fun _ => And.intro (fun q => ?_) (fun q => ?_))
      · have hpr : prLD tp a = false := pr_ne p3 p7 p9 (by omega) (by omega) q
        have at17 : ∀ (m k : Nat), k + m = wEn tp a → a ≤ k → P 17 [some tM, some (.inr (.inr (some (.inl 251)))), some (iv (nI k)), none] [] s2 := by
          intro m
          have hwl : wEn tp a ≤ tp.length := endE_le isL p5
          have h3 : gI s2 200 3 = nI tp.length := p1.2
          have fin : ∀ k, k = wEn tp a → P 17 [some tM, some (.inr (.inr (some (.inl 251)))), some (iv (nI k)), none] [] s2 := by
            intro k hk
            subst hk
            have aw : a ≤ wEn tp a := endE_ge isL tp a
            have ed : nI (wEn tp a) - gI s2 200 2 = nI (wEn tp a - a) := by rw [p3]; exact nI_s1 _ _ aw
            have hsl := sub_len (tp := tp) (a := a) hwl
            have kwe : kw tp wLeast a = decide (sub_ tp a (wEn tp a) = wLeast) := by unfold kw; rw [hL, hpr]; rfl
            have at29 : P 29 [some tM, some (.inr (.inr (some (.inl 251)))), some (iv (nI (wEn tp a))), none] [] s2 := by
              refine hP _ _ _ _ (And.intro (fun q => ?_) (fun q => ⟨nar0, ?_, S1, O1⟩))
              · have q0 : nI (wEn tp a) - gI s2 200 2 = nI 5 := q
                rw [ed, nI_eq (by omega) (by omega)] at q0
                have at40 : ∀ (m i : Nat), i + m = 5 → (∀ j, j < i → tp[a + j]? = wLeast[j]?) → P 40 [some tM, some (.inr (.inr (some (.inl 251)))), some (iv (nI (wEn tp a))), some (iv (nI i))] [] s2 := by
                  intro m
                  induction m with
                  | zero =>
                    intro i hi hall
                    refine hP _ _ _ _ (And.intro (fun _ => ⟨nar1, ?_, S1, O1⟩) (fun q => absurd (show nI 5 ≤ nI i from nI_le (by omega) (by omega)) q))
                    rw [show kwS tp wLeast (.ok a) = true from ?_]
                    · rfl
                    · show kw tp wLeast a = true
                      rw [kwe]
                      refine decide_eq_true (List.ext_getElem? (fun j => ?_))
                      by_cases hj : j < 5
                      · rw [sub_get (by omega)]; exact hall j (by omega)
                      · rw [List.getElem?_eq_none (by omega), List.getElem?_eq_none (show wLeast.length ≤ j by show 5 ≤ j; omega)]
                  | succ m ih =>
                    intro i hi hall
                    have hil : a + i < tp.length := by omega
                    obtain ⟨c, hc⟩ : ∃ c, tp[a + i]? = some c := ⟨_, List.getElem?_eq_getElem hil⟩
                    obtain ⟨u, hu⟩ : ∃ u, wLeast[i]? = some u := ⟨_, List.getElem?_eq_getElem (show i < wLeast.length by show i < 5; omega)⟩
                    have hv := p1.1.2 _ c hc
                    have hu2 := hw1.1 i u hu
                    have ei : gI s2 200 2 + nI i = nI (a + i) := by rw [p3, nI_add]
                    have g1 : gI s2 201 (gI s2 200 2 + nI i).toNatClampNeg = nI c := by rw [ei, clN (by omega), hv.1]
                    have g2 : gI s2 251 (nI i).toNatClampNeg = nI u := by rw [clN (by omega), hu2]
                    have hub := hw1.2 u (List.mem_of_getElem? hu)
                    refine hP _ _ _ _ (And.intro (fun q => absurd q (show ¬ nI 5 ≤ nI i from nI_ge (by omega) (by omega))) (fun _ => And.intro (show vp_in (gI s2 200 2 + nI i) 1600 from by rw [ei]; exact vinN (by omega) (by decide)) (And.intro (show vp_in (nI i) 5 from vinN (by omega) (by decide)) (And.intro (fun q => ?_) (fun q => ⟨nar0, ?_, S1, O1⟩)))))
                    · have q1 : gI s2 201 (gI s2 200 2 + nI i).toNatClampNeg = gI s2 251 (nI i).toNatClampNeg := q
                      rw [g1, g2, nI_eq (by omega) (by omega)] at q1
                      show P 40 [some tM, some (.inr (.inr (some (.inl 251)))), some (iv (nI (wEn tp a))), some (iv (nI i + nI 1))] [] s2
                      rw [nI_add]
                      refine ih (i+1) (by omega) (fun j hj => ?_)
                      by_cases ej : j = i
                      · rw [ej, hc, hu, q1]
                      · exact hall j (by omega)
                    · have q1 : ¬ gI s2 201 (gI s2 200 2 + nI i).toNatClampNeg = gI s2 251 (nI i).toNatClampNeg := q
                      rw [g1, g2, nI_eq (by omega) (by omega)] at q1
                      rw [show kwS tp wLeast (.ok a) = false from ?_]
                      · rfl
                      · show kw tp wLeast a = false
                        rw [kwe]
                        refine decide_eq_false (fun e9 => q1 ?_)
                        have := sub_get (tp := tp) (a := a) (b := wEn tp a) (i := i) (by omega)
                        rw [e9, hc, hu] at this
                        cases this
                        rfl
                exact at40 5 0 (by omega) (fun j hj => absurd hj (Nat.not_lt_zero _))
              · have q0 : ¬ nI (wEn tp a) - gI s2 200 2 = nI 5 := q
                rw [ed, nI_eq (by omega) (by omega)] at q0
                rw [show kwS tp wLeast (.ok a) = false from ?_]
                · rfl
                · show kw tp wLeast a = false
                  rw [kwe]
                  refine decide_eq_false (fun e9 => q0 ?_)
                  rw [← hsl, e9]
                  rfl
            refine hP _ _ _ _ (And.intro (fun _ => at29) (fun q => ?_))
            have q0 : ¬ gI s2 200 3 ≤ nI (wEn tp a) := q
            rw [h3, nI_leI (by omega) (by omega)] at q0
            obtain ⟨c, hc⟩ : ∃ c, tp[wEn tp a]? = some c := ⟨_, List.getElem?_eq_getElem (by omega)⟩
            have hv := p1.1.2 _ c hc
            refine And.intro (show vp_in (nI (wEn tp a)) 1600 from vinN (by omega) (by decide)) ?_
            refine mcall (c_isLetter G g l d s2 _) (fun r s3 h8 => ?_)
            obtain ⟨rfl, rfl⟩ := h8
            rw [show gI s3 201 (nI (wEn tp a)).toNatClampNeg = byI tp (wEn tp a) by rw [clN (by omega), hv.1]; unfold byI; rw [hc]]
            rw [letB p1.1, show isAt isL tp (wEn tp a) = false from endE_end isL tp a]
            exact And.intro (fun _ => at29) (fun q => absurd rfl q)
          induction m with
          | zero => intro k hk hak; exact fin k (by omega)
          | succ m ih =>
            intro k hk hak
            have hkL : isAt isL tp k = true := endE_in (p := isL) (a := a) hak (by show k < wEn tp a; omega)
            have hkl := isAt_lt hkL
            obtain ⟨c, hc⟩ : ∃ c, tp[k]? = some c := ⟨_, List.getElem?_eq_getElem hkl⟩
            have hv := p1.1.2 _ c hc
            refine hP _ _ _ _ (And.intro (fun q => ?_) (fun _ => And.intro (show vp_in (nI k) 1600 from vinN (by omega) (by decide)) ?_))
            · have q0 : gI s2 200 3 ≤ nI k := q
              rw [h3, nI_leI (by omega) (by omega)] at q0
              omega
            refine mcall (c_isLetter G g l d s2 _) (fun r s3 h8 => ?_)
            obtain ⟨rfl, rfl⟩ := h8
            rw [show gI s3 201 (nI k).toNatClampNeg = byI tp k by rw [clN (by omega), hv.1]; unfold byI; rw [hc]]
            rw [letB p1.1, hkL]
            refine And.intro (fun q => absurd q (by decide)) (fun _ => ?_)
            show P 17 [some tM, some (.inr (.inr (some (.inl 251)))), some (iv (nI k + nI 1)), none] [] s3
            rw [nI_add]
            exact ih (k+1) (by omega) (by omega)
        show P 17 [some tM, some (.inr (.inr (some (.inl 251)))), some (iv (gI s2 200 2)), none] [] s2
        rw [p3]
        exact at17 (wEn tp a - a) a (by have := endE_ge isL tp a; show a + (endE isL tp a - a) = endE isL tp a; omega) (Nat.le_refl _)
      · have hpr : prLD tp a = true := pr_eq p3 p7 p9 (by omega) (by omega) q
        exact no s2 (by show kw tp wLeast a = false; unfold kw; rw [hL, hpr]; rfl) S1 O1
theorem c_takes_251 (tp : List Nat) (S : Pos) (h : PX tp S σ) (hw : Wd 251 wLeast σ) : MC G g l (d+3) mX6_takes [tM, .inr (.inr (some (.inl 251)))] σ (fun r t => r = some (iv (bI (kwS tp wLeast S))) ∧ mS [2, 4] [] σ t ∧ PX tp (takS tp wLeast S) t ∧ (kwS tp wLeast S = false → PE tp S t)) := by
  refine MC0 tX6_takes rfl okX6_takes rfl rfl rfl rfl (fun P => ?_)
  refine mcall (c_isHere_251 G g l d σ tp S h hw) (fun r s1 h8 => ?_)
  obtain ⟨rfl, S1, E1⟩ := h8
  cases hk : kwS tp wLeast S with
  | false => exact And.intro (fun q => absurd rfl q) (fun _ => ⟨nar0, rfl, S1.mono rfl rfl, takS_no hk E1, fun _ => E1⟩)
  | true =>
    refine And.intro (fun _ => ⟨nar1, rfl, ((S1.mono rfl rfl).f rfl).f rfl, ?_, fun q => by cases q⟩) (fun q => absurd q (by decide))
    exact takS_yes (n := 5) hk E1 rfl
theorem c_asks_251 (tp : List Nat) (S : Pos) (h : PX tp S σ) (hw : Wd 251 wLeast σ) : MC G g l (d+4) mX6_asks [tM, .inr (.inr (some (.inl 251)))] σ (fun r t => r = none ∧ mS [2, 4, 5, 6] [] σ t ∧ PX tp (match S with
      | .ok a => askW tp wLeast a
      | .error f => .error f) t) := by
  refine MC0 tX6_asks rfl okX6_asks rfl rfl rfl rfl (fun P => ?_)
  cases S with
  | error f => exact And.intro (fun _ => ⟨rfl, mS.rf, h⟩) (fun q => absurd q (pf_bad h))
  | ok a =>
    have p2 := h.elim (fun a' h => h.2.1)
    refine And.intro (fun q => absurd p2 q) (fun _ => ?_)
    refine mcall (c_takes_251 G g l d σ tp (.ok a) h hw) (fun r s1 h8 => ?_)
    obtain ⟨rfl, S1, X1, E1⟩ := h8
    cases hk : kwS tp wLeast (.ok a) with
    | true =>
      refine And.intro (fun _ => ⟨rfl, S1.mono rfl rfl, ?_⟩) (fun q => absurd q (by decide))
      have hk0 : kw tp wLeast a = true := hk
      show PX tp (askW tp wLeast a) s1
      unfold askW
      rw [if_pos hk0]
      have : takS tp wLeast (.ok a) = .ok (skp tp (a + wLeast.length)) := if_pos hk0
      rw [this] at X1
      exact X1
    | false =>
      have hk0 : kw tp wLeast a = false := hk
      have E2 : PO tp a a s1 := E1 hk
      refine And.intro (fun q => absurd rfl q) (fun _ => ?_)
      have hl := E2.1.len
      have ha := E2.2.2.2.2.1
      refine mcall (c_fail G g l (d+2) s1 tp (.ok a) ⟨a, E2⟩ _ _ 1 a rfl E2.2.2.1 (by omega) (by omega) (by omega)) (fun r s2 h8 => ?_)
      obtain ⟨rfl, S2, X2⟩ := h8
      refine ⟨rfl, (S1.mono rfl rfl).tr (S2.mono rfl rfl), ?_⟩
      show PX tp (askW tp wLeast a) s2
      unfold askW
      rw [if_neg (by rw [hk0]; decide)]
      exact X2
set_option maxHeartbeats 1000000 in
theorem c_isHere_252 (tp : List Nat) (S : Pos) (h : PX tp S σ) (hw : Wd 252 wNot σ) : MC G g l (d+2) mX6_isHere [tM, .inr (.inr (some (.inl 252)))] σ (fun r t => r = some (iv (bI (kwS tp wNot S))) ∧ mS [2] [] σ t ∧ PE tp S t) := by
  refine MC1 tX6_isHere [12, 17, 29, 40] rfl okX6_isHere rfl rfl rfl rfl (fun P hP => ?_)
  have no : ∀ τ, kwS tp wNot S = false → mS [2] [] σ τ → PE tp S τ → P 12 [some tM, some (.inr (.inr (some (.inl 252)))), none, none] [] τ := fun τ e hS hE => hP _ _ _ _ ⟨nar0, by rw [e]; rfl, hS, hE⟩
  refine hP _ _ _ _ ?_
  cases S with
  | error f =>
    refine And.intro (fun _ => no σ rfl mS.rf h) (fun q => absurd q (pf_bad h))
  | ok a =>
    obtain ⟨a', h9⟩ := h
    refine And.intro (fun q => absurd h9.2.1 q) (fun _ => ?_)
    refine mcall (c_look G g l d σ tp a a' h9) (fun r s1 h8 => ?_)
    obtain ⟨rfl, S1, O1⟩ := h8
    have hw1 : Wd 252 wNot s1 := hw.keep S1 rfl rfl
    obtain ⟨p1, p2, p3, p4, p5, p6, e, p7, p8, p9, p10⟩ := O1
    have O1 : PO tp a a s1 := ⟨p1, p2, p3, p4, p5, p6, e, p7, p8, p9, p10⟩
    have hl := p1.len
    refine mcall (c_isLetter G g l d s1 (byI tp a)) (fun r s2 h8 => ?_)
    obtain ⟨rfl, rfl⟩ := h8
    rw [letB p1.1 a]
    cases hL : isAt isL tp a with
    | false => exact And.intro (fun _ => no s2 (by show kw tp wNot a = false; unfold kw; rw [hL]; rfl) S1 O1) (fun q => absurd rfl q)
    | true =>
      refine And.intro (fun q => absurd q (by decide)) (fun _ => And.intro (fun q => ?_) (fun q => ?_))
      · have hpr : prLD tp a = false := pr_ne p3 p7 p9 (by omega) (by omega) q
        have at17 : ∀ (m k : Nat), k + m = wEn tp a → a ≤ k → P 17 [some tM, some (.inr (.inr (some (.inl 252)))), some (iv (nI k)), none] [] s2 := by
          intro m
          have hwl : wEn tp a ≤ tp.length := endE_le isL p5
          have h3 : gI s2 200 3 = nI tp.length := p1.2
          have fin : ∀ k, k = wEn tp a → P 17 [some tM, some (.inr (.inr (some (.inl 252)))), some (iv (nI k)), none] [] s2 := by
            intro k hk
            subst hk
            have aw : a ≤ wEn tp a := endE_ge isL tp a
            have ed : nI (wEn tp a) - gI s2 200 2 = nI (wEn tp a - a) := by rw [p3]; exact nI_s1 _ _ aw
            have hsl := sub_len (tp := tp) (a := a) hwl
            have kwe : kw tp wNot a = decide (sub_ tp a (wEn tp a) = wNot) := by unfold kw; rw [hL, hpr]; rfl
            have at29 : P 29 [some tM, some (.inr (.inr (some (.inl 252)))), some (iv (nI (wEn tp a))), none] [] s2 := by
              refine hP _ _ _ _ (And.intro (fun q => ?_) (fun q => ⟨nar0, ?_, S1, O1⟩))
              · have q0 : nI (wEn tp a) - gI s2 200 2 = nI 3 := q
                rw [ed, nI_eq (by omega) (by omega)] at q0
                have at40 : ∀ (m i : Nat), i + m = 3 → (∀ j, j < i → tp[a + j]? = wNot[j]?) → P 40 [some tM, some (.inr (.inr (some (.inl 252)))), some (iv (nI (wEn tp a))), some (iv (nI i))] [] s2 := by
                  intro m
                  induction m with
                  | zero =>
                    intro i hi hall
                    refine hP _ _ _ _ (And.intro (fun _ => ⟨nar1, ?_, S1, O1⟩) (fun q => absurd (show nI 3 ≤ nI i from nI_le (by omega) (by omega)) q))
                    rw [show kwS tp wNot (.ok a) = true from ?_]
                    · rfl
                    · show kw tp wNot a = true
                      rw [kwe]
                      refine decide_eq_true (List.ext_getElem? (fun j => ?_))
                      by_cases hj : j < 3
                      · rw [sub_get (by omega)]; exact hall j (by omega)
                      · rw [List.getElem?_eq_none (by omega), List.getElem?_eq_none (show wNot.length ≤ j by show 3 ≤ j; omega)]
                  | succ m ih =>
                    intro i hi hall
                    have hil : a + i < tp.length := by omega
                    obtain ⟨c, hc⟩ : ∃ c, tp[a + i]? = some c := ⟨_, List.getElem?_eq_getElem hil⟩
                    obtain ⟨u, hu⟩ : ∃ u, wNot[i]? = some u := ⟨_, List.getElem?_eq_getElem (show i < wNot.length by show i < 3; omega)⟩
                    have hv := p1.1.2 _ c hc
                    have hu2 := hw1.1 i u hu
                    have ei : gI s2 200 2 + nI i = nI (a + i) := by rw [p3, nI_add]
                    have g1 : gI s2 201 (gI s2 200 2 + nI i).toNatClampNeg = nI c := by rw [ei, clN (by omega), hv.1]
                    have g2 : gI s2 252 (nI i).toNatClampNeg = nI u := by rw [clN (by omega), hu2]
                    have hub := hw1.2 u (List.mem_of_getElem? hu)
                    refine hP _ _ _ _ (And.intro (fun q => absurd q (show ¬ nI 3 ≤ nI i from nI_ge (by omega) (by omega))) (fun _ => And.intro (show vp_in (gI s2 200 2 + nI i) 1600 from by rw [ei]; exact vinN (by omega) (by decide)) (And.intro (show vp_in (nI i) 3 from vinN (by omega) (by decide)) (And.intro (fun q => ?_) (fun q => ⟨nar0, ?_, S1, O1⟩)))))
                    · have q1 : gI s2 201 (gI s2 200 2 + nI i).toNatClampNeg = gI s2 252 (nI i).toNatClampNeg := q
                      rw [g1, g2, nI_eq (by omega) (by omega)] at q1
                      show P 40 [some tM, some (.inr (.inr (some (.inl 252)))), some (iv (nI (wEn tp a))), some (iv (nI i + nI 1))] [] s2
                      rw [nI_add]
                      refine ih (i+1) (by omega) (fun j hj => ?_)
                      by_cases ej : j = i
                      · rw [ej, hc, hu, q1]
                      · exact hall j (by omega)
                    · have q1 : ¬ gI s2 201 (gI s2 200 2 + nI i).toNatClampNeg = gI s2 252 (nI i).toNatClampNeg := q
                      rw [g1, g2, nI_eq (by omega) (by omega)] at q1
                      rw [show kwS tp wNot (.ok a) = false from ?_]
                      · rfl
                      · show kw tp wNot a = false
                        rw [kwe]
                        refine decide_eq_false (fun e9 => q1 ?_)
                        have := sub_get (tp := tp) (a := a) (b := wEn tp a) (i := i) (by omega)
                        rw [e9, hc, hu] at this
                        cases this
                        rfl
                exact at40 3 0 (by omega) (fun j hj => absurd hj (Nat.not_lt_zero _))
              · have q0 : ¬ nI (wEn tp a) - gI s2 200 2 = nI 3 := q
                rw [ed, nI_eq (by omega) (by omega)] at q0
                rw [show kwS tp wNot (.ok a) = false from ?_]
                · rfl
                · show kw tp wNot a = false
                  rw [kwe]
                  refine decide_eq_false (fun e9 => q0 ?_)
                  rw [← hsl, e9]
                  rfl
            refine hP _ _ _ _ (And.intro (fun _ => at29) (fun q => ?_))
            have q0 : ¬ gI s2 200 3 ≤ nI (wEn tp a) := q
            rw [h3, nI_leI (by omega) (by omega)] at q0
            obtain ⟨c, hc⟩ : ∃ c, tp[wEn tp a]? = some c := ⟨_, List.getElem?_eq_getElem (by omega)⟩
            have hv := p1.1.2 _ c hc
            refine And.intro (show vp_in (nI (wEn tp a)) 1600 from vinN (by omega) (by decide)) ?_
            refine mcall (c_isLetter G g l d s2 _) (fun r s3 h8 => ?_)
            obtain ⟨rfl, rfl⟩ := h8
            rw [show gI s3 201 (nI (wEn tp a)).toNatClampNeg = byI tp (wEn tp a) by rw [clN (by omega), hv.1]; unfold byI; rw [hc]]
            rw [letB p1.1, show isAt isL tp (wEn tp a) = false from endE_end isL tp a]
            exact And.intro (fun _ => at29) (fun q => absurd rfl q)
          induction m with
          | zero => intro k hk hak; exact fin k (by omega)
          | succ m ih =>
            intro k hk hak
            have hkL : isAt isL tp k = true := endE_in (p := isL) (a := a) hak (by show k < wEn tp a; omega)
            have hkl := isAt_lt hkL
            obtain ⟨c, hc⟩ : ∃ c, tp[k]? = some c := ⟨_, List.getElem?_eq_getElem hkl⟩
            have hv := p1.1.2 _ c hc
            refine hP _ _ _ _ (And.intro (fun q => ?_) (fun _ => And.intro (show vp_in (nI k) 1600 from vinN (by omega) (by decide)) ?_))
            · have q0 : gI s2 200 3 ≤ nI k := q
              rw [h3, nI_leI (by omega) (by omega)] at q0
              omega
            refine mcall (c_isLetter G g l d s2 _) (fun r s3 h8 => ?_)
            obtain ⟨rfl, rfl⟩ := h8
            rw [show gI s3 201 (nI k).toNatClampNeg = byI tp k by rw [clN (by omega), hv.1]; unfold byI; rw [hc]]
            rw [letB p1.1, hkL]
            refine And.intro (fun q => absurd q (by decide)) (fun _ => ?_)
            show P 17 [some tM, some (.inr (.inr (some (.inl 252)))), some (iv (nI k + nI 1)), none] [] s3
            rw [nI_add]
            exact ih (k+1) (by omega) (by omega)
        show P 17 [some tM, some (.inr (.inr (some (.inl 252)))), some (iv (gI s2 200 2)), none] [] s2
        rw [p3]
        exact at17 (wEn tp a - a) a (by have := endE_ge isL tp a; show a + (endE isL tp a - a) = endE isL tp a; omega) (Nat.le_refl _)
      · have hpr : prLD tp a = true := pr_eq p3 p7 p9 (by omega) (by omega) q
        exact no s2 (by show kw tp wNot a = false; unfold kw; rw [hL, hpr]; rfl) S1 O1
theorem c_takes_252 (tp : List Nat) (S : Pos) (h : PX tp S σ) (hw : Wd 252 wNot σ) : MC G g l (d+3) mX6_takes [tM, .inr (.inr (some (.inl 252)))] σ (fun r t => r = some (iv (bI (kwS tp wNot S))) ∧ mS [2, 4] [] σ t ∧ PX tp (takS tp wNot S) t ∧ (kwS tp wNot S = false → PE tp S t)) := by
  refine MC0 tX6_takes rfl okX6_takes rfl rfl rfl rfl (fun P => ?_)
  refine mcall (c_isHere_252 G g l d σ tp S h hw) (fun r s1 h8 => ?_)
  obtain ⟨rfl, S1, E1⟩ := h8
  cases hk : kwS tp wNot S with
  | false => exact And.intro (fun q => absurd rfl q) (fun _ => ⟨nar0, rfl, S1.mono rfl rfl, takS_no hk E1, fun _ => E1⟩)
  | true =>
    refine And.intro (fun _ => ⟨nar1, rfl, ((S1.mono rfl rfl).f rfl).f rfl, ?_, fun q => by cases q⟩) (fun q => absurd q (by decide))
    exact takS_yes (n := 3) hk E1 rfl
theorem c_asks_252 (tp : List Nat) (S : Pos) (h : PX tp S σ) (hw : Wd 252 wNot σ) : MC G g l (d+4) mX6_asks [tM, .inr (.inr (some (.inl 252)))] σ (fun r t => r = none ∧ mS [2, 4, 5, 6] [] σ t ∧ PX tp (match S with
      | .ok a => askW tp wNot a
      | .error f => .error f) t) := by
  refine MC0 tX6_asks rfl okX6_asks rfl rfl rfl rfl (fun P => ?_)
  cases S with
  | error f => exact And.intro (fun _ => ⟨rfl, mS.rf, h⟩) (fun q => absurd q (pf_bad h))
  | ok a =>
    have p2 := h.elim (fun a' h => h.2.1)
    refine And.intro (fun q => absurd p2 q) (fun _ => ?_)
    refine mcall (c_takes_252 G g l d σ tp (.ok a) h hw) (fun r s1 h8 => ?_)
    obtain ⟨rfl, S1, X1, E1⟩ := h8
    cases hk : kwS tp wNot (.ok a) with
    | true =>
      refine And.intro (fun _ => ⟨rfl, S1.mono rfl rfl, ?_⟩) (fun q => absurd q (by decide))
      have hk0 : kw tp wNot a = true := hk
      show PX tp (askW tp wNot a) s1
      unfold askW
      rw [if_pos hk0]
      have : takS tp wNot (.ok a) = .ok (skp tp (a + wNot.length)) := if_pos hk0
      rw [this] at X1
      exact X1
    | false =>
      have hk0 : kw tp wNot a = false := hk
      have E2 : PO tp a a s1 := E1 hk
      refine And.intro (fun q => absurd rfl q) (fun _ => ?_)
      have hl := E2.1.len
      have ha := E2.2.2.2.2.1
      refine mcall (c_fail G g l (d+2) s1 tp (.ok a) ⟨a, E2⟩ _ _ 1 a rfl E2.2.2.1 (by omega) (by omega) (by omega)) (fun r s2 h8 => ?_)
      obtain ⟨rfl, S2, X2⟩ := h8
      refine ⟨rfl, (S1.mono rfl rfl).tr (S2.mono rfl rfl), ?_⟩
      show PX tp (askW tp wNot a) s2
      unfold askW
      rw [if_neg (by rw [hk0]; decide)]
      exact X2
set_option maxHeartbeats 1000000 in
theorem c_isHere_253 (tp : List Nat) (S : Pos) (h : PX tp S σ) (hw : Wd 253 wAnd σ) : MC G g l (d+2) mX6_isHere [tM, .inr (.inr (some (.inl 253)))] σ (fun r t => r = some (iv (bI (kwS tp wAnd S))) ∧ mS [2] [] σ t ∧ PE tp S t) := by
  refine MC1 tX6_isHere [12, 17, 29, 40] rfl okX6_isHere rfl rfl rfl rfl (fun P hP => ?_)
  have no : ∀ τ, kwS tp wAnd S = false → mS [2] [] σ τ → PE tp S τ → P 12 [some tM, some (.inr (.inr (some (.inl 253)))), none, none] [] τ := fun τ e hS hE => hP _ _ _ _ ⟨nar0, by rw [e]; rfl, hS, hE⟩
  refine hP _ _ _ _ ?_
  cases S with
  | error f =>
    refine And.intro (fun _ => no σ rfl mS.rf h) (fun q => absurd q (pf_bad h))
  | ok a =>
    obtain ⟨a', h9⟩ := h
    refine And.intro (fun q => absurd h9.2.1 q) (fun _ => ?_)
    refine mcall (c_look G g l d σ tp a a' h9) (fun r s1 h8 => ?_)
    obtain ⟨rfl, S1, O1⟩ := h8
    have hw1 : Wd 253 wAnd s1 := hw.keep S1 rfl rfl
    obtain ⟨p1, p2, p3, p4, p5, p6, e, p7, p8, p9, p10⟩ := O1
    have O1 : PO tp a a s1 := ⟨p1, p2, p3, p4, p5, p6, e, p7, p8, p9, p10⟩
    have hl := p1.len
    refine mcall (c_isLetter G g l d s1 (byI tp a)) (fun r s2 h8 => ?_)
    obtain ⟨rfl, rfl⟩ := h8
    rw [letB p1.1 a]
    cases hL : isAt isL tp a with
    | false => exact And.intro (fun _ => no s2 (by show kw tp wAnd a = false; unfold kw; rw [hL]; rfl) S1 O1) (fun q => absurd rfl q)
    | true =>
      refine And.intro (fun q => absurd q (by decide)) (fun _ => And.intro (fun q => ?_) (fun q => ?_))
      · have hpr : prLD tp a = false := pr_ne p3 p7 p9 (by omega) (by omega) q
        have at17 : ∀ (m k : Nat), k + m = wEn tp a → a ≤ k → P 17 [some tM, some (.inr (.inr (some (.inl 253)))), some (iv (nI k)), none] [] s2 := by
          intro m
          have hwl : wEn tp a ≤ tp.length := endE_le isL p5
          have h3 : gI s2 200 3 = nI tp.length := p1.2
          have fin : ∀ k, k = wEn tp a → P 17 [some tM, some (.inr (.inr (some (.inl 253)))), some (iv (nI k)), none] [] s2 := by
            intro k hk
            subst hk
            have aw : a ≤ wEn tp a := endE_ge isL tp a
            have ed : nI (wEn tp a) - gI s2 200 2 = nI (wEn tp a - a) := by rw [p3]; exact nI_s1 _ _ aw
            have hsl := sub_len (tp := tp) (a := a) hwl
            have kwe : kw tp wAnd a = decide (sub_ tp a (wEn tp a) = wAnd) := by unfold kw; rw [hL, hpr]; rfl
            have at29 : P 29 [some tM, some (.inr (.inr (some (.inl 253)))), some (iv (nI (wEn tp a))), none] [] s2 := by
              refine hP _ _ _ _ (And.intro (fun q => ?_) (fun q => ⟨nar0, ?_, S1, O1⟩))
              · have q0 : nI (wEn tp a) - gI s2 200 2 = nI 3 := q
                rw [ed, nI_eq (by omega) (by omega)] at q0
                have at40 : ∀ (m i : Nat), i + m = 3 → (∀ j, j < i → tp[a + j]? = wAnd[j]?) → P 40 [some tM, some (.inr (.inr (some (.inl 253)))), some (iv (nI (wEn tp a))), some (iv (nI i))] [] s2 := by
                  intro m
                  induction m with
                  | zero =>
                    intro i hi hall
                    refine hP _ _ _ _ (And.intro (fun _ => ⟨nar1, ?_, S1, O1⟩) (fun q => absurd (show nI 3 ≤ nI i from nI_le (by omega) (by omega)) q))
                    rw [show kwS tp wAnd (.ok a) = true from ?_]
                    · rfl
                    · show kw tp wAnd a = true
                      rw [kwe]
                      refine decide_eq_true (List.ext_getElem? (fun j => ?_))
                      by_cases hj : j < 3
                      · rw [sub_get (by omega)]; exact hall j (by omega)
                      · rw [List.getElem?_eq_none (by omega), List.getElem?_eq_none (show wAnd.length ≤ j by show 3 ≤ j; omega)]
                  | succ m ih =>
                    intro i hi hall
                    have hil : a + i < tp.length := by omega
                    obtain ⟨c, hc⟩ : ∃ c, tp[a + i]? = some c := ⟨_, List.getElem?_eq_getElem hil⟩
                    obtain ⟨u, hu⟩ : ∃ u, wAnd[i]? = some u := ⟨_, List.getElem?_eq_getElem (show i < wAnd.length by show i < 3; omega)⟩
                    have hv := p1.1.2 _ c hc
                    have hu2 := hw1.1 i u hu
                    have ei : gI s2 200 2 + nI i = nI (a + i) := by rw [p3, nI_add]
                    have g1 : gI s2 201 (gI s2 200 2 + nI i).toNatClampNeg = nI c := by rw [ei, clN (by omega), hv.1]
                    have g2 : gI s2 253 (nI i).toNatClampNeg = nI u := by rw [clN (by omega), hu2]
                    have hub := hw1.2 u (List.mem_of_getElem? hu)
                    refine hP _ _ _ _ (And.intro (fun q => absurd q (show ¬ nI 3 ≤ nI i from nI_ge (by omega) (by omega))) (fun _ => And.intro (show vp_in (gI s2 200 2 + nI i) 1600 from by rw [ei]; exact vinN (by omega) (by decide)) (And.intro (show vp_in (nI i) 3 from vinN (by omega) (by decide)) (And.intro (fun q => ?_) (fun q => ⟨nar0, ?_, S1, O1⟩)))))
                    · have q1 : gI s2 201 (gI s2 200 2 + nI i).toNatClampNeg = gI s2 253 (nI i).toNatClampNeg := q
                      rw [g1, g2, nI_eq (by omega) (by omega)] at q1
                      show P 40 [some tM, some (.inr (.inr (some (.inl 253)))), some (iv (nI (wEn tp a))), some (iv (nI i + nI 1))] [] s2
                      rw [nI_add]
                      refine ih (i+1) (by omega) (fun j hj => ?_)
                      by_cases ej : j = i
                      · rw [ej, hc, hu, q1]
                      · exact hall j (by omega)
                    · have q1 : ¬ gI s2 201 (gI s2 200 2 + nI i).toNatClampNeg = gI s2 253 (nI i).toNatClampNeg := q
                      rw [g1, g2, nI_eq (by omega) (by omega)] at q1
                      rw [show kwS tp wAnd (.ok a) = false from ?_]
                      · rfl
                      · show kw tp wAnd a = false
                        rw [kwe]
                        refine decide_eq_false (fun e9 => q1 ?_)
                        have := sub_get (tp := tp) (a := a) (b := wEn tp a) (i := i) (by omega)
                        rw [e9, hc, hu] at this
                        cases this
                        rfl
                exact at40 3 0 (by omega) (fun j hj => absurd hj (Nat.not_lt_zero _))
              · have q0 : ¬ nI (wEn tp a) - gI s2 200 2 = nI 3 := q
                rw [ed, nI_eq (by omega) (by omega)] at q0
                rw [show kwS tp wAnd (.ok a) = false from ?_]
                · rfl
                · show kw tp wAnd a = false
                  rw [kwe]
                  refine decide_eq_false (fun e9 => q0 ?_)
                  rw [← hsl, e9]
                  rfl
            refine hP _ _ _ _ (And.intro (fun _ => at29) (fun q => ?_))
            have q0 : ¬ gI s2 200 3 ≤ nI (wEn tp a) := q
            rw [h3, nI_leI (by omega) (by omega)] at q0
            obtain ⟨c, hc⟩ : ∃ c, tp[wEn tp a]? = some c := ⟨_, List.getElem?_eq_getElem (by omega)⟩
            have hv := p1.1.2 _ c hc
            refine And.intro (show vp_in (nI (wEn tp a)) 1600 from vinN (by omega) (by decide)) ?_
            refine mcall (c_isLetter G g l d s2 _) (fun r s3 h8 => ?_)
            obtain ⟨rfl, rfl⟩ := h8
            rw [show gI s3 201 (nI (wEn tp a)).toNatClampNeg = byI tp (wEn tp a) by rw [clN (by omega), hv.1]; unfold byI; rw [hc]]
            rw [letB p1.1, show isAt isL tp (wEn tp a) = false from endE_end isL tp a]
            exact And.intro (fun _ => at29) (fun q => absurd rfl q)
          induction m with
          | zero => intro k hk hak; exact fin k (by omega)
          | succ m ih =>
            intro k hk hak
            have hkL : isAt isL tp k = true := endE_in (p := isL) (a := a) hak (by show k < wEn tp a; omega)
            have hkl := isAt_lt hkL
            obtain ⟨c, hc⟩ : ∃ c, tp[k]? = some c := ⟨_, List.getElem?_eq_getElem hkl⟩
            have hv := p1.1.2 _ c hc
            refine hP _ _ _ _ (And.intro (fun q => ?_) (fun _ => And.intro (show vp_in (nI k) 1600 from vinN (by omega) (by decide)) ?_))
            · have q0 : gI s2 200 3 ≤ nI k := q
              rw [h3, nI_leI (by omega) (by omega)] at q0
              omega
            refine mcall (c_isLetter G g l d s2 _) (fun r s3 h8 => ?_)
            obtain ⟨rfl, rfl⟩ := h8
            rw [show gI s3 201 (nI k).toNatClampNeg = byI tp k by rw [clN (by omega), hv.1]; unfold byI; rw [hc]]
            rw [letB p1.1, hkL]
            refine And.intro (fun q => absurd q (by decide)) (fun _ => ?_)
            show P 17 [some tM, some (.inr (.inr (some (.inl 253)))), some (iv (nI k + nI 1)), none] [] s3
            rw [nI_add]
            exact ih (k+1) (by omega) (by omega)
        show P 17 [some tM, some (.inr (.inr (some (.inl 253)))), some (iv (gI s2 200 2)), none] [] s2
        rw [p3]
        exact at17 (wEn tp a - a) a (by have := endE_ge isL tp a; show a + (endE isL tp a - a) = endE isL tp a; omega) (Nat.le_refl _)
      · have hpr : prLD tp a = true := pr_eq p3 p7 p9 (by omega) (by omega) q
        exact no s2 (by show kw tp wAnd a = false; unfold kw; rw [hL, hpr]; rfl) S1 O1
theorem c_takes_253 (tp : List Nat) (S : Pos) (h : PX tp S σ) (hw : Wd 253 wAnd σ) : MC G g l (d+3) mX6_takes [tM, .inr (.inr (some (.inl 253)))] σ (fun r t => r = some (iv (bI (kwS tp wAnd S))) ∧ mS [2, 4] [] σ t ∧ PX tp (takS tp wAnd S) t ∧ (kwS tp wAnd S = false → PE tp S t)) := by
  refine MC0 tX6_takes rfl okX6_takes rfl rfl rfl rfl (fun P => ?_)
  refine mcall (c_isHere_253 G g l d σ tp S h hw) (fun r s1 h8 => ?_)
  obtain ⟨rfl, S1, E1⟩ := h8
  cases hk : kwS tp wAnd S with
  | false => exact And.intro (fun q => absurd rfl q) (fun _ => ⟨nar0, rfl, S1.mono rfl rfl, takS_no hk E1, fun _ => E1⟩)
  | true =>
    refine And.intro (fun _ => ⟨nar1, rfl, ((S1.mono rfl rfl).f rfl).f rfl, ?_, fun q => by cases q⟩) (fun q => absurd q (by decide))
    exact takS_yes (n := 3) hk E1 rfl
theorem c_asks_253 (tp : List Nat) (S : Pos) (h : PX tp S σ) (hw : Wd 253 wAnd σ) : MC G g l (d+4) mX6_asks [tM, .inr (.inr (some (.inl 253)))] σ (fun r t => r = none ∧ mS [2, 4, 5, 6] [] σ t ∧ PX tp (match S with
      | .ok a => askW tp wAnd a
      | .error f => .error f) t) := by
  refine MC0 tX6_asks rfl okX6_asks rfl rfl rfl rfl (fun P => ?_)
  cases S with
  | error f => exact And.intro (fun _ => ⟨rfl, mS.rf, h⟩) (fun q => absurd q (pf_bad h))
  | ok a =>
    have p2 := h.elim (fun a' h => h.2.1)
    refine And.intro (fun q => absurd p2 q) (fun _ => ?_)
    refine mcall (c_takes_253 G g l d σ tp (.ok a) h hw) (fun r s1 h8 => ?_)
    obtain ⟨rfl, S1, X1, E1⟩ := h8
    cases hk : kwS tp wAnd (.ok a) with
    | true =>
      refine And.intro (fun _ => ⟨rfl, S1.mono rfl rfl, ?_⟩) (fun q => absurd q (by decide))
      have hk0 : kw tp wAnd a = true := hk
      show PX tp (askW tp wAnd a) s1
      unfold askW
      rw [if_pos hk0]
      have : takS tp wAnd (.ok a) = .ok (skp tp (a + wAnd.length)) := if_pos hk0
      rw [this] at X1
      exact X1
    | false =>
      have hk0 : kw tp wAnd a = false := hk
      have E2 : PO tp a a s1 := E1 hk
      refine And.intro (fun q => absurd rfl q) (fun _ => ?_)
      have hl := E2.1.len
      have ha := E2.2.2.2.2.1
      refine mcall (c_fail G g l (d+2) s1 tp (.ok a) ⟨a, E2⟩ _ _ 1 a rfl E2.2.2.1 (by omega) (by omega) (by omega)) (fun r s2 h8 => ?_)
      obtain ⟨rfl, S2, X2⟩ := h8
      refine ⟨rfl, (S1.mono rfl rfl).tr (S2.mono rfl rfl), ?_⟩
      show PX tp (askW tp wAnd a) s2
      unfold askW
      rw [if_neg (by rw [hk0]; decide)]
      exact X2
set_option maxHeartbeats 1000000 in
theorem c_isHere_254 (tp : List Nat) (S : Pos) (h : PX tp S σ) (hw : Wd 254 wOr σ) : MC G g l (d+2) mX6_isHere [tM, .inr (.inr (some (.inl 254)))] σ (fun r t => r = some (iv (bI (kwS tp wOr S))) ∧ mS [2] [] σ t ∧ PE tp S t) := by
  refine MC1 tX6_isHere [12, 17, 29, 40] rfl okX6_isHere rfl rfl rfl rfl (fun P hP => ?_)
  have no : ∀ τ, kwS tp wOr S = false → mS [2] [] σ τ → PE tp S τ → P 12 [some tM, some (.inr (.inr (some (.inl 254)))), none, none] [] τ := fun τ e hS hE => hP _ _ _ _ ⟨nar0, by rw [e]; rfl, hS, hE⟩
  refine hP _ _ _ _ ?_
  cases S with
  | error f =>
    refine And.intro (fun _ => no σ rfl mS.rf h) (fun q => absurd q (pf_bad h))
  | ok a =>
    obtain ⟨a', h9⟩ := h
    refine And.intro (fun q => absurd h9.2.1 q) (fun _ => ?_)
    refine mcall (c_look G g l d σ tp a a' h9) (fun r s1 h8 => ?_)
    obtain ⟨rfl, S1, O1⟩ := h8
    have hw1 : Wd 254 wOr s1 := hw.keep S1 rfl rfl
    obtain ⟨p1, p2, p3, p4, p5, p6, e, p7, p8, p9, p10⟩ := O1
    have O1 : PO tp a a s1 := ⟨p1, p2, p3, p4, p5, p6, e, p7, p8, p9, p10⟩
    have hl := p1.len
    refine mcall (c_isLetter G g l d s1 (byI tp a)) (fun r s2 h8 => ?_)
    obtain ⟨rfl, rfl⟩ := h8
    rw [letB p1.1 a]
    cases hL : isAt isL tp a with
    | false => exact And.intro (fun _ => no s2 (by show kw tp wOr a = false; unfold kw; rw [hL]; rfl) S1 O1) (fun q => absurd rfl q)
    | true =>
      refine And.intro (fun q => absurd q (by decide)) (fun _ => And.intro (fun q => ?_) (fun q => ?_))
      · have hpr : prLD tp a = false := pr_ne p3 p7 p9 (by omega) (by omega) q
        have at17 : ∀ (m k : Nat), k + m = wEn tp a → a ≤ k → P 17 [some tM, some (.inr (.inr (some (.inl 254)))), some (iv (nI k)), none] [] s2 := by
          intro m
          have hwl : wEn tp a ≤ tp.length := endE_le isL p5
          have h3 : gI s2 200 3 = nI tp.length := p1.2
          have fin : ∀ k, k = wEn tp a → P 17 [some tM, some (.inr (.inr (some (.inl 254)))), some (iv (nI k)), none] [] s2 := by
            intro k hk
            subst hk
            have aw : a ≤ wEn tp a := endE_ge isL tp a
            have ed : nI (wEn tp a) - gI s2 200 2 = nI (wEn tp a - a) := by rw [p3]; exact nI_s1 _ _ aw
            have hsl := sub_len (tp := tp) (a := a) hwl
            have kwe : kw tp wOr a = decide (sub_ tp a (wEn tp a) = wOr) := by unfold kw; rw [hL, hpr]; rfl
            have at29 : P 29 [some tM, some (.inr (.inr (some (.inl 254)))), some (iv (nI (wEn tp a))), none] [] s2 := by
              refine hP _ _ _ _ (And.intro (fun q => ?_) (fun q => ⟨nar0, ?_, S1, O1⟩))
              · have q0 : nI (wEn tp a) - gI s2 200 2 = nI 2 := q
                rw [ed, nI_eq (by omega) (by omega)] at q0
                have at40 : ∀ (m i : Nat), i + m = 2 → (∀ j, j < i → tp[a + j]? = wOr[j]?) → P 40 [some tM, some (.inr (.inr (some (.inl 254)))), some (iv (nI (wEn tp a))), some (iv (nI i))] [] s2 := by
                  intro m
                  induction m with
                  | zero =>
                    intro i hi hall
                    refine hP _ _ _ _ (And.intro (fun _ => ⟨nar1, ?_, S1, O1⟩) (fun q => absurd (show nI 2 ≤ nI i from nI_le (by omega) (by omega)) q))
                    rw [show kwS tp wOr (.ok a) = true from ?_]
                    · rfl
                    · show kw tp wOr a = true
                      rw [kwe]
                      refine decide_eq_true (List.ext_getElem? (fun j => ?_))
                      by_cases hj : j < 2
                      · rw [sub_get (by omega)]; exact hall j (by omega)
                      · rw [List.getElem?_eq_none (by omega), List.getElem?_eq_none (show wOr.length ≤ j by show 2 ≤ j; omega)]
                  | succ m ih =>
                    intro i hi hall
                    have hil : a + i < tp.length := by omega
                    obtain ⟨c, hc⟩ : ∃ c, tp[a + i]? = some c := ⟨_, List.getElem?_eq_getElem hil⟩
                    obtain ⟨u, hu⟩ : ∃ u, wOr[i]? = some u := ⟨_, List.getElem?_eq_getElem (show i < wOr.length by show i < 2; omega)⟩
                    have hv := p1.1.2 _ c hc
                    have hu2 := hw1.1 i u hu
                    have ei : gI s2 200 2 + nI i = nI (a + i) := by rw [p3, nI_add]
                    have g1 : gI s2 201 (gI s2 200 2 + nI i).toNatClampNeg = nI c := by rw [ei, clN (by omega), hv.1]
                    have g2 : gI s2 254 (nI i).toNatClampNeg = nI u := by rw [clN (by omega), hu2]
                    have hub := hw1.2 u (List.mem_of_getElem? hu)
                    refine hP _ _ _ _ (And.intro (fun q => absurd q (show ¬ nI 2 ≤ nI i from nI_ge (by omega) (by omega))) (fun _ => And.intro (show vp_in (gI s2 200 2 + nI i) 1600 from by rw [ei]; exact vinN (by omega) (by decide)) (And.intro (show vp_in (nI i) 2 from vinN (by omega) (by decide)) (And.intro (fun q => ?_) (fun q => ⟨nar0, ?_, S1, O1⟩)))))
                    · have q1 : gI s2 201 (gI s2 200 2 + nI i).toNatClampNeg = gI s2 254 (nI i).toNatClampNeg := q
                      rw [g1, g2, nI_eq (by omega) (by omega)] at q1
                      show P 40 [some tM, some (.inr (.inr (some (.inl 254)))), some (iv (nI (wEn tp a))), some (iv (nI i + nI 1))] [] s2
                      rw [nI_add]
                      refine ih (i+1) (by omega) (fun j hj => ?_)
                      by_cases ej : j = i
                      · rw [ej, hc, hu, q1]
                      · exact hall j (by omega)
                    · have q1 : ¬ gI s2 201 (gI s2 200 2 + nI i).toNatClampNeg = gI s2 254 (nI i).toNatClampNeg := q
                      rw [g1, g2, nI_eq (by omega) (by omega)] at q1
                      rw [show kwS tp wOr (.ok a) = false from ?_]
                      · rfl
                      · show kw tp wOr a = false
                        rw [kwe]
                        refine decide_eq_false (fun e9 => q1 ?_)
                        have := sub_get (tp := tp) (a := a) (b := wEn tp a) (i := i) (by omega)
                        rw [e9, hc, hu] at this
                        cases this
                        rfl
                exact at40 2 0 (by omega) (fun j hj => absurd hj (Nat.not_lt_zero _))
              · have q0 : ¬ nI (wEn tp a) - gI s2 200 2 = nI 2 := q
                rw [ed, nI_eq (by omega) (by omega)] at q0
                rw [show kwS tp wOr (.ok a) = false from ?_]
                · rfl
                · show kw tp wOr a = false
                  rw [kwe]
                  refine decide_eq_false (fun e9 => q0 ?_)
                  rw [← hsl, e9]
                  rfl
            refine hP _ _ _ _ (And.intro (fun _ => at29) (fun q => ?_))
            have q0 : ¬ gI s2 200 3 ≤ nI (wEn tp a) := q
            rw [h3, nI_leI (by omega) (by omega)] at q0
            obtain ⟨c, hc⟩ : ∃ c, tp[wEn tp a]? = some c := ⟨_, List.getElem?_eq_getElem (by omega)⟩
            have hv := p1.1.2 _ c hc
            refine And.intro (show vp_in (nI (wEn tp a)) 1600 from vinN (by omega) (by decide)) ?_
            refine mcall (c_isLetter G g l d s2 _) (fun r s3 h8 => ?_)
            obtain ⟨rfl, rfl⟩ := h8
            rw [show gI s3 201 (nI (wEn tp a)).toNatClampNeg = byI tp (wEn tp a) by rw [clN (by omega), hv.1]; unfold byI; rw [hc]]
            rw [letB p1.1, show isAt isL tp (wEn tp a) = false from endE_end isL tp a]
            exact And.intro (fun _ => at29) (fun q => absurd rfl q)
          induction m with
          | zero => intro k hk hak; exact fin k (by omega)
          | succ m ih =>
            intro k hk hak
            have hkL : isAt isL tp k = true := endE_in (p := isL) (a := a) hak (by show k < wEn tp a; omega)
            have hkl := isAt_lt hkL
            obtain ⟨c, hc⟩ : ∃ c, tp[k]? = some c := ⟨_, List.getElem?_eq_getElem hkl⟩
            have hv := p1.1.2 _ c hc
            refine hP _ _ _ _ (And.intro (fun q => ?_) (fun _ => And.intro (show vp_in (nI k) 1600 from vinN (by omega) (by decide)) ?_))
            · have q0 : gI s2 200 3 ≤ nI k := q
              rw [h3, nI_leI (by omega) (by omega)] at q0
              omega
            refine mcall (c_isLetter G g l d s2 _) (fun r s3 h8 => ?_)
            obtain ⟨rfl, rfl⟩ := h8
            rw [show gI s3 201 (nI k).toNatClampNeg = byI tp k by rw [clN (by omega), hv.1]; unfold byI; rw [hc]]
            rw [letB p1.1, hkL]
            refine And.intro (fun q => absurd q (by decide)) (fun _ => ?_)
            show P 17 [some tM, some (.inr (.inr (some (.inl 254)))), some (iv (nI k + nI 1)), none] [] s3
            rw [nI_add]
            exact ih (k+1) (by omega) (by omega)
        show P 17 [some tM, some (.inr (.inr (some (.inl 254)))), some (iv (gI s2 200 2)), none] [] s2
        rw [p3]
        exact at17 (wEn tp a - a) a (by have := endE_ge isL tp a; show a + (endE isL tp a - a) = endE isL tp a; omega) (Nat.le_refl _)
      · have hpr : prLD tp a = true := pr_eq p3 p7 p9 (by omega) (by omega) q
        exact no s2 (by show kw tp wOr a = false; unfold kw; rw [hL, hpr]; rfl) S1 O1
theorem c_takes_254 (tp : List Nat) (S : Pos) (h : PX tp S σ) (hw : Wd 254 wOr σ) : MC G g l (d+3) mX6_takes [tM, .inr (.inr (some (.inl 254)))] σ (fun r t => r = some (iv (bI (kwS tp wOr S))) ∧ mS [2, 4] [] σ t ∧ PX tp (takS tp wOr S) t ∧ (kwS tp wOr S = false → PE tp S t)) := by
  refine MC0 tX6_takes rfl okX6_takes rfl rfl rfl rfl (fun P => ?_)
  refine mcall (c_isHere_254 G g l d σ tp S h hw) (fun r s1 h8 => ?_)
  obtain ⟨rfl, S1, E1⟩ := h8
  cases hk : kwS tp wOr S with
  | false => exact And.intro (fun q => absurd rfl q) (fun _ => ⟨nar0, rfl, S1.mono rfl rfl, takS_no hk E1, fun _ => E1⟩)
  | true =>
    refine And.intro (fun _ => ⟨nar1, rfl, ((S1.mono rfl rfl).f rfl).f rfl, ?_, fun q => by cases q⟩) (fun q => absurd q (by decide))
    exact takS_yes (n := 2) hk E1 rfl
theorem c_asks_254 (tp : List Nat) (S : Pos) (h : PX tp S σ) (hw : Wd 254 wOr σ) : MC G g l (d+4) mX6_asks [tM, .inr (.inr (some (.inl 254)))] σ (fun r t => r = none ∧ mS [2, 4, 5, 6] [] σ t ∧ PX tp (match S with
      | .ok a => askW tp wOr a
      | .error f => .error f) t) := by
  refine MC0 tX6_asks rfl okX6_asks rfl rfl rfl rfl (fun P => ?_)
  cases S with
  | error f => exact And.intro (fun _ => ⟨rfl, mS.rf, h⟩) (fun q => absurd q (pf_bad h))
  | ok a =>
    have p2 := h.elim (fun a' h => h.2.1)
    refine And.intro (fun q => absurd p2 q) (fun _ => ?_)
    refine mcall (c_takes_254 G g l d σ tp (.ok a) h hw) (fun r s1 h8 => ?_)
    obtain ⟨rfl, S1, X1, E1⟩ := h8
    cases hk : kwS tp wOr (.ok a) with
    | true =>
      refine And.intro (fun _ => ⟨rfl, S1.mono rfl rfl, ?_⟩) (fun q => absurd q (by decide))
      have hk0 : kw tp wOr a = true := hk
      show PX tp (askW tp wOr a) s1
      unfold askW
      rw [if_pos hk0]
      have : takS tp wOr (.ok a) = .ok (skp tp (a + wOr.length)) := if_pos hk0
      rw [this] at X1
      exact X1
    | false =>
      have hk0 : kw tp wOr a = false := hk
      have E2 : PO tp a a s1 := E1 hk
      refine And.intro (fun q => absurd rfl q) (fun _ => ?_)
      have hl := E2.1.len
      have ha := E2.2.2.2.2.1
      refine mcall (c_fail G g l (d+2) s1 tp (.ok a) ⟨a, E2⟩ _ _ 1 a rfl E2.2.2.1 (by omega) (by omega) (by omega)) (fun r s2 h8 => ?_)
      obtain ⟨rfl, S2, X2⟩ := h8
      refine ⟨rfl, (S1.mono rfl rfl).tr (S2.mono rfl rfl), ?_⟩
      show PX tp (askW tp wOr a) s2
      unfold askW
      rw [if_neg (by rw [hk0]; decide)]
      exact X2
set_option maxHeartbeats 1000000 in
theorem c_isHere_255 (tp : List Nat) (S : Pos) (h : PX tp S σ) (hw : Wd 255 wAll σ) : MC G g l (d+2) mX6_isHere [tM, .inr (.inr (some (.inl 255)))] σ (fun r t => r = some (iv (bI (kwS tp wAll S))) ∧ mS [2] [] σ t ∧ PE tp S t) := by
  refine MC1 tX6_isHere [12, 17, 29, 40] rfl okX6_isHere rfl rfl rfl rfl (fun P hP => ?_)
  have no : ∀ τ, kwS tp wAll S = false → mS [2] [] σ τ → PE tp S τ → P 12 [some tM, some (.inr (.inr (some (.inl 255)))), none, none] [] τ := fun τ e hS hE => hP _ _ _ _ ⟨nar0, by rw [e]; rfl, hS, hE⟩
  refine hP _ _ _ _ ?_
  cases S with
  | error f =>
    refine And.intro (fun _ => no σ rfl mS.rf h) (fun q => absurd q (pf_bad h))
  | ok a =>
    obtain ⟨a', h9⟩ := h
    refine And.intro (fun q => absurd h9.2.1 q) (fun _ => ?_)
    refine mcall (c_look G g l d σ tp a a' h9) (fun r s1 h8 => ?_)
    obtain ⟨rfl, S1, O1⟩ := h8
    have hw1 : Wd 255 wAll s1 := hw.keep S1 rfl rfl
    obtain ⟨p1, p2, p3, p4, p5, p6, e, p7, p8, p9, p10⟩ := O1
    have O1 : PO tp a a s1 := ⟨p1, p2, p3, p4, p5, p6, e, p7, p8, p9, p10⟩
    have hl := p1.len
    refine mcall (c_isLetter G g l d s1 (byI tp a)) (fun r s2 h8 => ?_)
    obtain ⟨rfl, rfl⟩ := h8
    rw [letB p1.1 a]
    cases hL : isAt isL tp a with
    | false => exact And.intro (fun _ => no s2 (by show kw tp wAll a = false; unfold kw; rw [hL]; rfl) S1 O1) (fun q => absurd rfl q)
    | true =>
      refine And.intro (fun q => absurd q (by decide)) (fun _ => And.intro (fun q => ?_) (fun q => ?_))
      · have hpr : prLD tp a = false := pr_ne p3 p7 p9 (by omega) (by omega) q
        have at17 : ∀ (m k : Nat), k + m = wEn tp a → a ≤ k → P 17 [some tM, some (.inr (.inr (some (.inl 255)))), some (iv (nI k)), none] [] s2 := by
          intro m
          have hwl : wEn tp a ≤ tp.length := endE_le isL p5
          have h3 : gI s2 200 3 = nI tp.length := p1.2
          have fin : ∀ k, k = wEn tp a → P 17 [some tM, some (.inr (.inr (some (.inl 255)))), some (iv (nI k)), none] [] s2 := by
            intro k hk
            subst hk
            have aw : a ≤ wEn tp a := endE_ge isL tp a
            have ed : nI (wEn tp a) - gI s2 200 2 = nI (wEn tp a - a) := by rw [p3]; exact nI_s1 _ _ aw
            have hsl := sub_len (tp := tp) (a := a) hwl
            have kwe : kw tp wAll a = decide (sub_ tp a (wEn tp a) = wAll) := by unfold kw; rw [hL, hpr]; rfl
            have at29 : P 29 [some tM, some (.inr (.inr (some (.inl 255)))), some (iv (nI (wEn tp a))), none] [] s2 := by
              refine hP _ _ _ _ (And.intro (fun q => ?_) (fun q => ⟨nar0, ?_, S1, O1⟩))
              · have q0 : nI (wEn tp a) - gI s2 200 2 = nI 3 := q
                rw [ed, nI_eq (by omega) (by omega)] at q0
                have at40 : ∀ (m i : Nat), i + m = 3 → (∀ j, j < i → tp[a + j]? = wAll[j]?) → P 40 [some tM, some (.inr (.inr (some (.inl 255)))), some (iv (nI (wEn tp a))), some (iv (nI i))] [] s2 := by
                  intro m
                  induction m with
                  | zero =>
                    intro i hi hall
                    refine hP _ _ _ _ (And.intro (fun _ => ⟨nar1, ?_, S1, O1⟩) (fun q => absurd (show nI 3 ≤ nI i from nI_le (by omega) (by omega)) q))
                    rw [show kwS tp wAll (.ok a) = true from ?_]
                    · rfl
                    · show kw tp wAll a = true
                      rw [kwe]
                      refine decide_eq_true (List.ext_getElem? (fun j => ?_))
                      by_cases hj : j < 3
                      · rw [sub_get (by omega)]; exact hall j (by omega)
                      · rw [List.getElem?_eq_none (by omega), List.getElem?_eq_none (show wAll.length ≤ j by show 3 ≤ j; omega)]
                  | succ m ih =>
                    intro i hi hall
                    have hil : a + i < tp.length := by omega
                    obtain ⟨c, hc⟩ : ∃ c, tp[a + i]? = some c := ⟨_, List.getElem?_eq_getElem hil⟩
                    obtain ⟨u, hu⟩ : ∃ u, wAll[i]? = some u := ⟨_, List.getElem?_eq_getElem (show i < wAll.length by show i < 3; omega)⟩
                    have hv := p1.1.2 _ c hc
                    have hu2 := hw1.1 i u hu
                    have ei : gI s2 200 2 + nI i = nI (a + i) := by rw [p3, nI_add]
                    have g1 : gI s2 201 (gI s2 200 2 + nI i).toNatClampNeg = nI c := by rw [ei, clN (by omega), hv.1]
                    have g2 : gI s2 255 (nI i).toNatClampNeg = nI u := by rw [clN (by omega), hu2]
                    have hub := hw1.2 u (List.mem_of_getElem? hu)
                    refine hP _ _ _ _ (And.intro (fun q => absurd q (show ¬ nI 3 ≤ nI i from nI_ge (by omega) (by omega))) (fun _ => And.intro (show vp_in (gI s2 200 2 + nI i) 1600 from by rw [ei]; exact vinN (by omega) (by decide)) (And.intro (show vp_in (nI i) 3 from vinN (by omega) (by decide)) (And.intro (fun q => ?_) (fun q => ⟨nar0, ?_, S1, O1⟩)))))
                    · have q1 : gI s2 201 (gI s2 200 2 + nI i).toNatClampNeg = gI s2 255 (nI i).toNatClampNeg := q
                      rw [g1, g2, nI_eq (by omega) (by omega)] at q1
                      show P 40 [some tM, some (.inr (.inr (some (.inl 255)))), some (iv (nI (wEn tp a))), some (iv (nI i + nI 1))] [] s2
                      rw [nI_add]
                      refine ih (i+1) (by omega) (fun j hj => ?_)
                      by_cases ej : j = i
                      · rw [ej, hc, hu, q1]
                      · exact hall j (by omega)
                    · have q1 : ¬ gI s2 201 (gI s2 200 2 + nI i).toNatClampNeg = gI s2 255 (nI i).toNatClampNeg := q
                      rw [g1, g2, nI_eq (by omega) (by omega)] at q1
                      rw [show kwS tp wAll (.ok a) = false from ?_]
                      · rfl
                      · show kw tp wAll a = false
                        rw [kwe]
                        refine decide_eq_false (fun e9 => q1 ?_)
                        have := sub_get (tp := tp) (a := a) (b := wEn tp a) (i := i) (by omega)
                        rw [e9, hc, hu] at this
                        cases this
                        rfl
                exact at40 3 0 (by omega) (fun j hj => absurd hj (Nat.not_lt_zero _))
              · have q0 : ¬ nI (wEn tp a) - gI s2 200 2 = nI 3 := q
                rw [ed, nI_eq (by omega) (by omega)] at q0
                rw [show kwS tp wAll (.ok a) = false from ?_]
                · rfl
                · show kw tp wAll a = false
                  rw [kwe]
                  refine decide_eq_false (fun e9 => q0 ?_)
                  rw [← hsl, e9]
                  rfl
            refine hP _ _ _ _ (And.intro (fun _ => at29) (fun q => ?_))
            have q0 : ¬ gI s2 200 3 ≤ nI (wEn tp a) := q
            rw [h3, nI_leI (by omega) (by omega)] at q0
            obtain ⟨c, hc⟩ : ∃ c, tp[wEn tp a]? = some c := ⟨_, List.getElem?_eq_getElem (by omega)⟩
            have hv := p1.1.2 _ c hc
            refine And.intro (show vp_in (nI (wEn tp a)) 1600 from vinN (by omega) (by decide)) ?_
            refine mcall (c_isLetter G g l d s2 _) (fun r s3 h8 => ?_)
            obtain ⟨rfl, rfl⟩ := h8
            rw [show gI s3 201 (nI (wEn tp a)).toNatClampNeg = byI tp (wEn tp a) by rw [clN (by omega), hv.1]; unfold byI; rw [hc]]
            rw [letB p1.1, show isAt isL tp (wEn tp a) = false from endE_end isL tp a]
            exact And.intro (fun _ => at29) (fun q => absurd rfl q)
          induction m with
          | zero => intro k hk hak; exact fin k (by omega)
          | succ m ih =>
            intro k hk hak
            have hkL : isAt isL tp k = true := endE_in (p := isL) (a := a) hak (by show k < wEn tp a; omega)
            have hkl := isAt_lt hkL
            obtain ⟨c, hc⟩ : ∃ c, tp[k]? = some c := ⟨_, List.getElem?_eq_getElem hkl⟩
            have hv := p1.1.2 _ c hc
            refine hP _ _ _ _ (And.intro (fun q => ?_) (fun _ => And.intro (show vp_in (nI k) 1600 from vinN (by omega) (by decide)) ?_))
            · have q0 : gI s2 200 3 ≤ nI k := q
              rw [h3, nI_leI (by omega) (by omega)] at q0
              omega
            refine mcall (c_isLetter G g l d s2 _) (fun r s3 h8 => ?_)
            obtain ⟨rfl, rfl⟩ := h8
            rw [show gI s3 201 (nI k).toNatClampNeg = byI tp k by rw [clN (by omega), hv.1]; unfold byI; rw [hc]]
            rw [letB p1.1, hkL]
            refine And.intro (fun q => absurd q (by decide)) (fun _ => ?_)
            show P 17 [some tM, some (.inr (.inr (some (.inl 255)))), some (iv (nI k + nI 1)), none] [] s3
            rw [nI_add]
            exact ih (k+1) (by omega) (by omega)
        show P 17 [some tM, some (.inr (.inr (some (.inl 255)))), some (iv (gI s2 200 2)), none] [] s2
        rw [p3]
        exact at17 (wEn tp a - a) a (by have := endE_ge isL tp a; show a + (endE isL tp a - a) = endE isL tp a; omega) (Nat.le_refl _)
      · have hpr : prLD tp a = true := pr_eq p3 p7 p9 (by omega) (by omega) q
        exact no s2 (by show kw tp wAll a = false; unfold kw; rw [hL, hpr]; rfl) S1 O1
theorem c_takes_255 (tp : List Nat) (S : Pos) (h : PX tp S σ) (hw : Wd 255 wAll σ) : MC G g l (d+3) mX6_takes [tM, .inr (.inr (some (.inl 255)))] σ (fun r t => r = some (iv (bI (kwS tp wAll S))) ∧ mS [2, 4] [] σ t ∧ PX tp (takS tp wAll S) t ∧ (kwS tp wAll S = false → PE tp S t)) := by
  refine MC0 tX6_takes rfl okX6_takes rfl rfl rfl rfl (fun P => ?_)
  refine mcall (c_isHere_255 G g l d σ tp S h hw) (fun r s1 h8 => ?_)
  obtain ⟨rfl, S1, E1⟩ := h8
  cases hk : kwS tp wAll S with
  | false => exact And.intro (fun q => absurd rfl q) (fun _ => ⟨nar0, rfl, S1.mono rfl rfl, takS_no hk E1, fun _ => E1⟩)
  | true =>
    refine And.intro (fun _ => ⟨nar1, rfl, ((S1.mono rfl rfl).f rfl).f rfl, ?_, fun q => by cases q⟩) (fun q => absurd q (by decide))
    exact takS_yes (n := 3) hk E1 rfl
theorem c_asks_255 (tp : List Nat) (S : Pos) (h : PX tp S σ) (hw : Wd 255 wAll σ) : MC G g l (d+4) mX6_asks [tM, .inr (.inr (some (.inl 255)))] σ (fun r t => r = none ∧ mS [2, 4, 5, 6] [] σ t ∧ PX tp (match S with
      | .ok a => askW tp wAll a
      | .error f => .error f) t) := by
  refine MC0 tX6_asks rfl okX6_asks rfl rfl rfl rfl (fun P => ?_)
  cases S with
  | error f => exact And.intro (fun _ => ⟨rfl, mS.rf, h⟩) (fun q => absurd q (pf_bad h))
  | ok a =>
    have p2 := h.elim (fun a' h => h.2.1)
    refine And.intro (fun q => absurd p2 q) (fun _ => ?_)
    refine mcall (c_takes_255 G g l d σ tp (.ok a) h hw) (fun r s1 h8 => ?_)
    obtain ⟨rfl, S1, X1, E1⟩ := h8
    cases hk : kwS tp wAll (.ok a) with
    | true =>
      refine And.intro (fun _ => ⟨rfl, S1.mono rfl rfl, ?_⟩) (fun q => absurd q (by decide))
      have hk0 : kw tp wAll a = true := hk
      show PX tp (askW tp wAll a) s1
      unfold askW
      rw [if_pos hk0]
      have : takS tp wAll (.ok a) = .ok (skp tp (a + wAll.length)) := if_pos hk0
      rw [this] at X1
      exact X1
    | false =>
      have hk0 : kw tp wAll a = false := hk
      have E2 : PO tp a a s1 := E1 hk
      refine And.intro (fun q => absurd rfl q) (fun _ => ?_)
      have hl := E2.1.len
      have ha := E2.2.2.2.2.1
      refine mcall (c_fail G g l (d+2) s1 tp (.ok a) ⟨a, E2⟩ _ _ 1 a rfl E2.2.2.1 (by omega) (by omega) (by omega)) (fun r s2 h8 => ?_)
      obtain ⟨rfl, S2, X2⟩ := h8
      refine ⟨rfl, (S1.mono rfl rfl).tr (S2.mono rfl rfl), ?_⟩
      show PX tp (askW tp wAll a) s2
      unfold askW
      rw [if_neg (by rw [hk0]; decide)]
      exact X2
end KW_18
