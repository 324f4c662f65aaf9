theorem kw_no {tp w v : List Nat} {a : Nat} (h : kw tp w a = true) (hn : w ≠ v) : kw tp v a = false := by
  cases e : kw tp v a with
  | false => rfl
  | true => exact absurd ((kw_end h).2.2.2.symm.trans (kw_end e).2.2.2) hn
theorem findW_ofL (tp : List Nat) (a : Nat) : findW tp (ofL true) a = if kw tp wWidth a = true then some (60, 5) else if kw tp wTide a = true then some (61, 4) else if kw tp wPasses a = true then some (62, 6) else none := rfl
theorem findW_pqL (tp : List Nat) (a : Nat) : findW tp (partL true) a = if kw tp wHour a = true then some (40, 4) else if kw tp wClock a = true then some (41, 5) else if kw tp wDay a = true then some (42, 3) else none := rfl
def wIx (tp : List Nat) (a : Nat) : Int32 := if kw tp wHour a = true then nI 0 else if kw tp wClock a = true then nI 1 else if kw tp wDay a = true then nI 2 else if kw tp wWidth a = true then nI 3 else if kw tp wTide a = true then nI 4 else if kw tp wPasses a = true then nI 5 else - nI 1
/-- the word here, if it is one of those -/
def wCase (tp : List Nat) (a i : Nat) : Prop := (i = 0 ∧ kw tp wHour a = true ∧ wIx tp a = nI 0 ∧ findW tp (ofL true) a = none ∧ findW tp (partL true) a = some (40, 4)) ∨ (i = 1 ∧ kw tp wClock a = true ∧ wIx tp a = nI 1 ∧ findW tp (ofL true) a = none ∧ findW tp (partL true) a = some (41, 5)) ∨ (i = 2 ∧ kw tp wDay a = true ∧ wIx tp a = nI 2 ∧ findW tp (ofL true) a = none ∧ findW tp (partL true) a = some (42, 3)) ∨ (i = 3 ∧ kw tp wWidth a = true ∧ wIx tp a = nI 3 ∧ findW tp (ofL true) a = some (60, 5) ∧ findW tp (partL true) a = none) ∨ (i = 4 ∧ kw tp wTide a = true ∧ wIx tp a = nI 4 ∧ findW tp (ofL true) a = some (61, 4) ∧ findW tp (partL true) a = none) ∨ (i = 5 ∧ kw tp wPasses a = true ∧ wIx tp a = nI 5 ∧ findW tp (ofL true) a = some (62, 6) ∧ findW tp (partL true) a = none)
theorem wIx_all (tp : List Nat) (a : Nat) : (∃ i, wCase tp a i) ∨ (wIx tp a = - nI 1 ∧ findW tp (ofL true) a = none ∧ findW tp (partL true) a = none) := by
  unfold wCase wIx
  rw [findW_ofL, findW_pqL]
  cases e0 : kw tp wHour a with
  | true =>
    have e1 : kw tp wClock a = false := kw_no e0 (by decide)
    have e2 : kw tp wDay a = false := kw_no e0 (by decide)
    have e3 : kw tp wWidth a = false := kw_no e0 (by decide)
    have e4 : kw tp wTide a = false := kw_no e0 (by decide)
    have e5 : kw tp wPasses a = false := kw_no e0 (by decide)
    refine Or.inl ⟨0, ?_⟩
    simp [e1, e2, e3, e4, e5]
  | false =>
    cases e1 : kw tp wClock a with
    | true =>
      have e2 : kw tp wDay a = false := kw_no e1 (by decide)
      have e3 : kw tp wWidth a = false := kw_no e1 (by decide)
      have e4 : kw tp wTide a = false := kw_no e1 (by decide)
      have e5 : kw tp wPasses a = false := kw_no e1 (by decide)
      refine Or.inl ⟨1, ?_⟩
      simp [e2, e3, e4, e5]
    | false =>
      cases e2 : kw tp wDay a with
      | true =>
        have e3 : kw tp wWidth a = false := kw_no e2 (by decide)
        have e4 : kw tp wTide a = false := kw_no e2 (by decide)
        have e5 : kw tp wPasses a = false := kw_no e2 (by decide)
        refine Or.inl ⟨2, ?_⟩
        simp [e3, e4, e5]
      | false =>
        cases e3 : kw tp wWidth a with
        | true =>
          have e4 : kw tp wTide a = false := kw_no e3 (by decide)
          have e5 : kw tp wPasses a = false := kw_no e3 (by decide)
          refine Or.inl ⟨3, ?_⟩
          simp [e4, e5]
        | false =>
          cases e4 : kw tp wTide a with
          | true =>
            have e5 : kw tp wPasses a = false := kw_no e4 (by decide)
            refine Or.inl ⟨4, ?_⟩
            simp [e5]
          | false =>
            cases e5 : kw tp wPasses a with
            | true =>
              refine Or.inl ⟨5, ?_⟩
              simp []
            | false =>
              exact Or.inr ⟨by simp, by simp, by simp⟩
section QW_
variable (G : CX) (g : GX) (l : Launch) (d : Nat) (σ : AS)
theorem c_qWordHere (tp : List Nat) (a : Nat) (h : PX tp (.ok a) σ) (hW : Wds σ) : MC G g l (d+3) mX6_qWordHere [tM] σ (fun r t => r = some (iv (wIx tp a)) ∧ mS [2] [] σ t ∧ PE tp (.ok a) t) := by
  unfold wIx
  refine MC0 tX6_qWordHere rfl okX6_qWordHere rfl rfl rfl rfl (fun P => ?_)
  refine mcall (c_isHere_258 G g l d σ tp (.ok a) h (hW.2 12 wHour rfl)) (fun r s1 h8 => ?_)
  obtain ⟨rfl, S1, E1⟩ := h8
  have Q1 : mS [2] [] σ s1 := S1
  cases k0 : kw tp wHour a with
  | true =>
    rw [show kwS tp wHour (.ok a) = true from k0]
    exact And.intro (fun q => absurd q (by decide)) (fun _ => ⟨by simp, Q1, E1⟩)
  | false =>
    rw [show kwS tp wHour (.ok a) = false from k0]
    refine And.intro (fun _ => ?_) (fun q => absurd rfl q)
    refine mcall (c_isHere_259 G g l d s1 tp (.ok a) E1.px ((hW.keep Q1 rfl).2 13 wClock rfl)) (fun r s2 h8 => ?_)
    obtain ⟨rfl, S2, E2⟩ := h8
    have Q2 : mS [2] [] σ s2 := Q1.tr S2
    cases k1 : kw tp wClock a with
    | true =>
      rw [show kwS tp wClock (.ok a) = true from k1]
      exact And.intro (fun q => absurd q (by decide)) (fun _ => ⟨by simp, Q2, E2⟩)
    | false =>
      rw [show kwS tp wClock (.ok a) = false from k1]
      refine And.intro (fun _ => ?_) (fun q => absurd rfl q)
      refine mcall (c_isHere_260 G g l d s2 tp (.ok a) E2.px ((hW.keep Q2 rfl).2 14 wDay rfl)) (fun r s3 h8 => ?_)
      obtain ⟨rfl, S3, E3⟩ := h8
      have Q3 : mS [2] [] σ s3 := Q2.tr S3
      cases k2 : kw tp wDay a with
      | true =>
        rw [show kwS tp wDay (.ok a) = true from k2]
        exact And.intro (fun q => absurd q (by decide)) (fun _ => ⟨by simp, Q3, E3⟩)
      | false =>
        rw [show kwS tp wDay (.ok a) = false from k2]
        refine And.intro (fun _ => ?_) (fun q => absurd rfl q)
        refine mcall (c_isHere_261 G g l d s3 tp (.ok a) E3.px ((hW.keep Q3 rfl).2 15 wWidth rfl)) (fun r s4 h8 => ?_)
        obtain ⟨rfl, S4, E4⟩ := h8
        have Q4 : mS [2] [] σ s4 := Q3.tr S4
        cases k3 : kw tp wWidth a with
        | true =>
          rw [show kwS tp wWidth (.ok a) = true from k3]
          exact And.intro (fun q => absurd q (by decide)) (fun _ => ⟨by simp, Q4, E4⟩)
        | false =>
          rw [show kwS tp wWidth (.ok a) = false from k3]
          refine And.intro (fun _ => ?_) (fun q => absurd rfl q)
          refine mcall (c_isHere_262 G g l d s4 tp (.ok a) E4.px ((hW.keep Q4 rfl).2 16 wTide rfl)) (fun r s5 h8 => ?_)
          obtain ⟨rfl, S5, E5⟩ := h8
          have Q5 : mS [2] [] σ s5 := Q4.tr S5
          cases k4 : kw tp wTide a with
          | true =>
            rw [show kwS tp wTide (.ok a) = true from k4]
            exact And.intro (fun q => absurd q (by decide)) (fun _ => ⟨by simp, Q5, E5⟩)
          | false =>
            rw [show kwS tp wTide (.ok a) = false from k4]
            refine And.intro (fun _ => ?_) (fun q => absurd rfl q)
            refine mcall (c_isHere_263 G g l d s5 tp (.ok a) E5.px ((hW.keep Q5 rfl).2 17 wPasses rfl)) (fun r s6 h8 => ?_)
            obtain ⟨rfl, S6, E6⟩ := h8
            have Q6 : mS [2] [] σ s6 := Q5.tr S6
            cases k5 : kw tp wPasses a with
            | true =>
              rw [show kwS tp wPasses (.ok a) = true from k5]
              exact And.intro (fun q => absurd q (by decide)) (fun _ => ⟨by simp, Q6, E6⟩)
            | false =>
              rw [show kwS tp wPasses (.ok a) = false from k5]
              refine And.intro (fun _ => ?_) (fun q => absurd rfl q)
              exact ⟨by simp, Q6, E6⟩
def wOf36 (tp : List Nat) (a : Nat) : Int32 := if wIx tp a < nI 3 then - nI 1 else if nI 6 ≤ wIx tp a then - nI 1 else wIx tp a
theorem c_qWordOf36 (tp : List Nat) (a : Nat) (h : PX tp (.ok a) σ) (hW : Wds σ) : MC G g l (d+4) mX6_qWordOf [tM, iv (nI 3), iv (nI 6)] σ (fun r t => r = some (iv (wOf36 tp a)) ∧ mS [2] [] σ t ∧ PE tp (.ok a) t) := by
  unfold wOf36
  refine MC0 tX6_qWordOf rfl okX6_qWordOf rfl rfl rfl rfl (fun P => ?_)
  refine mcall (c_qWordHere G g l d σ tp a h hW) (fun r s1 h8 => ?_)
  obtain ⟨rfl, S1, E1⟩ := h8
  refine And.intro (fun q => ⟨by rw [if_pos q], S1, E1⟩) (fun q => And.intro (fun q2 => ⟨by rw [if_neg q, if_pos q2], S1, E1⟩) (fun q2 => ⟨by rw [if_neg q, if_neg q2], S1, E1⟩))
def wOf03 (tp : List Nat) (a : Nat) : Int32 := if wIx tp a < nI 0 then - nI 1 else if nI 3 ≤ wIx tp a then - nI 1 else wIx tp a
theorem c_qWordOf03 (tp : List Nat) (a : Nat) (h : PX tp (.ok a) σ) (hW : Wds σ) : MC G g l (d+4) mX6_qWordOf [tM, iv (nI 0), iv (nI 3)] σ (fun r t => r = some (iv (wOf03 tp a)) ∧ mS [2] [] σ t ∧ PE tp (.ok a) t) := by
  unfold wOf03
  refine MC0 tX6_qWordOf rfl okX6_qWordOf rfl rfl rfl rfl (fun P => ?_)
  refine mcall (c_qWordHere G g l d σ tp a h hW) (fun r s1 h8 => ?_)
  obtain ⟨rfl, S1, E1⟩ := h8
  refine And.intro (fun q => ⟨by rw [if_pos q], S1, E1⟩) (fun q => And.intro (fun q2 => ⟨by rw [if_neg q, if_pos q2], S1, E1⟩) (fun q2 => ⟨by rw [if_neg q, if_neg q2], S1, E1⟩))
theorem c_qAsksWord0 (tp : List Nat) (S : Pos) (h : PX tp S σ) (hW : Wds σ) : MC G g l (d+5) mX6_qAsksWord [tM, iv (nI 0)] σ (fun r t => r = none ∧ mS [2, 4, 5, 6] [] σ t ∧ PX tp (bnd S (askW tp wHour)) t) := by
  refine MC0 tX6_qAsksWord rfl okX6_qAsksWord rfl rfl rfl rfl (fun P => ?_)
  refine And.intro (fun _ => ?_) (fun q => absurd rfl q)
  refine mcall (c_asks_258 G g l d σ tp S h (hW.2 12 wHour rfl)) (fun r s1 h8 => ?_)
  obtain ⟨rfl, S1, X1⟩ := h8
  exact ⟨rfl, S1, by cases S <;> exact X1⟩
theorem c_qAsksWord1 (tp : List Nat) (S : Pos) (h : PX tp S σ) (hW : Wds σ) : MC G g l (d+5) mX6_qAsksWord [tM, iv (nI 1)] σ (fun r t => r = none ∧ mS [2, 4, 5, 6] [] σ t ∧ PX tp (bnd S (askW tp wClock)) t) := by
  refine MC0 tX6_qAsksWord rfl okX6_qAsksWord rfl rfl rfl rfl (fun P => ?_)
  refine And.intro (fun q => absurd q (by decide)) (fun _ => And.intro (fun _ => ?_) (fun q => absurd rfl q))
  refine mcall (c_asks_259 G g l d σ tp S h (hW.2 13 wClock rfl)) (fun r s1 h8 => ?_)
  obtain ⟨rfl, S1, X1⟩ := h8
  exact ⟨rfl, S1, by cases S <;> exact X1⟩
theorem c_qAsksWord2 (tp : List Nat) (S : Pos) (h : PX tp S σ) (hW : Wds σ) : MC G g l (d+5) mX6_qAsksWord [tM, iv (nI 2)] σ (fun r t => r = none ∧ mS [2, 4, 5, 6] [] σ t ∧ PX tp (bnd S (askW tp wDay)) t) := by
  refine MC0 tX6_qAsksWord rfl okX6_qAsksWord rfl rfl rfl rfl (fun P => ?_)
  refine And.intro (fun q => absurd q (by decide)) (fun _ => And.intro (fun q => absurd q (by decide)) (fun _ => And.intro (fun _ => ?_) (fun q => absurd rfl q)))
  refine mcall (c_asks_260 G g l d σ tp S h (hW.2 14 wDay rfl)) (fun r s1 h8 => ?_)
  obtain ⟨rfl, S1, X1⟩ := h8
  exact ⟨rfl, S1, by cases S <;> exact X1⟩
theorem c_qAsksWord3 (tp : List Nat) (S : Pos) (h : PX tp S σ) (hW : Wds σ) : MC G g l (d+5) mX6_qAsksWord [tM, iv (nI 3)] σ (fun r t => r = none ∧ mS [2, 4, 5, 6] [] σ t ∧ PX tp (bnd S (askW tp wWidth)) t) := by
  refine MC0 tX6_qAsksWord rfl okX6_qAsksWord rfl rfl rfl rfl (fun P => ?_)
  refine And.intro (fun q => absurd q (by decide)) (fun _ => And.intro (fun q => absurd q (by decide)) (fun _ => And.intro (fun q => absurd q (by decide)) (fun _ => And.intro (fun _ => ?_) (fun q => absurd rfl q))))
  refine mcall (c_asks_261 G g l d σ tp S h (hW.2 15 wWidth rfl)) (fun r s1 h8 => ?_)
  obtain ⟨rfl, S1, X1⟩ := h8
  exact ⟨rfl, S1, by cases S <;> exact X1⟩
theorem c_qAsksWord4 (tp : List Nat) (S : Pos) (h : PX tp S σ) (hW : Wds σ) : MC G g l (d+5) mX6_qAsksWord [tM, iv (nI 4)] σ (fun r t => r = none ∧ mS [2, 4, 5, 6] [] σ t ∧ PX tp (bnd S (askW tp wTide)) t) := by
  refine MC0 tX6_qAsksWord rfl okX6_qAsksWord rfl rfl rfl rfl (fun P => ?_)
  refine And.intro (fun q => absurd q (by decide)) (fun _ => And.intro (fun q => absurd q (by decide)) (fun _ => And.intro (fun q => absurd q (by decide)) (fun _ => And.intro (fun q => absurd q (by decide)) (fun _ => And.intro (fun _ => ?_) (fun q => absurd rfl q)))))
  refine mcall (c_asks_262 G g l d σ tp S h (hW.2 16 wTide rfl)) (fun r s1 h8 => ?_)
  obtain ⟨rfl, S1, X1⟩ := h8
  exact ⟨rfl, S1, by cases S <;> exact X1⟩
theorem c_qAsksWord5 (tp : List Nat) (S : Pos) (h : PX tp S σ) (hW : Wds σ) : MC G g l (d+5) mX6_qAsksWord [tM, iv (nI 5)] σ (fun r t => r = none ∧ mS [2, 4, 5, 6] [] σ t ∧ PX tp (bnd S (askW tp wPasses)) t) := by
  refine MC0 tX6_qAsksWord rfl okX6_qAsksWord rfl rfl rfl rfl (fun P => ?_)
  refine And.intro (fun q => absurd q (by decide)) (fun _ => And.intro (fun q => absurd q (by decide)) (fun _ => And.intro (fun q => absurd q (by decide)) (fun _ => And.intro (fun q => absurd q (by decide)) (fun _ => And.intro (fun q => absurd q (by decide)) (fun _ => ?_)))))
  refine mcall (c_asks_263 G g l d σ tp S h (hW.2 17 wPasses rfl)) (fun r s1 h8 => ?_)
  obtain ⟨rfl, S1, X1⟩ := h8
  exact ⟨rfl, S1, by cases S <;> exact X1⟩
theorem wOf36_none {tp : List Nat} {a : Nat} (h : findW tp (ofL true) a = none) : wOf36 tp a = - nI 1 := by
  unfold wOf36
  rcases wIx_all tp a with ⟨i, hc⟩ | ⟨e1, -, -⟩
  · rcases hc with ⟨rfl, e1, e2, e3, e4⟩ | ⟨rfl, e1, e2, e3, e4⟩ | ⟨rfl, e1, e2, e3, e4⟩ | ⟨rfl, e1, e2, e3, e4⟩ | ⟨rfl, e1, e2, e3, e4⟩ | ⟨rfl, e1, e2, e3, e4⟩
    · rw [e2]; decide
    · rw [e2]; decide
    · rw [e2]; decide
    · rw [e3] at h; cases h
    · rw [e3] at h; cases h
    · rw [e3] at h; cases h
  · rw [e1]; decide
theorem wOf36_some {tp : List Nat} {a : Nat} {x : Nat × Nat} (h : findW tp (ofL true) a = some x) : (x = (60, 5) ∧ wOf36 tp a = nI 3 ∧ kw tp wWidth a = true) ∨ (x = (61, 4) ∧ wOf36 tp a = nI 4 ∧ kw tp wTide a = true) ∨ (x = (62, 6) ∧ wOf36 tp a = nI 5 ∧ kw tp wPasses a = true) := by
  unfold wOf36
  rcases wIx_all tp a with ⟨i, hc⟩ | ⟨e1, e3, e4⟩
  · rcases hc with ⟨rfl, e1, e2, e3, e4⟩ | ⟨rfl, e1, e2, e3, e4⟩ | ⟨rfl, e1, e2, e3, e4⟩ | ⟨rfl, e1, e2, e3, e4⟩ | ⟨rfl, e1, e2, e3, e4⟩ | ⟨rfl, e1, e2, e3, e4⟩
    · rw [e3] at h; cases h
    · rw [e3] at h; cases h
    · rw [e3] at h; cases h
    · exact Or.inl ⟨(Option.some.inj (h.symm.trans e3)), by rw [e2]; decide, e1⟩
    · exact Or.inr (Or.inl ⟨(Option.some.inj (h.symm.trans e3)), by rw [e2]; decide, e1⟩)
    · exact Or.inr (Or.inr ⟨(Option.some.inj (h.symm.trans e3)), by rw [e2]; decide, e1⟩)
  · rw [e3] at h; cases h
theorem wOf03_none {tp : List Nat} {a : Nat} (h : findW tp (partL true) a = none) : wOf03 tp a = - nI 1 := by
  unfold wOf03
  rcases wIx_all tp a with ⟨i, hc⟩ | ⟨e1, -, -⟩
  · rcases hc with ⟨rfl, e1, e2, e3, e4⟩ | ⟨rfl, e1, e2, e3, e4⟩ | ⟨rfl, e1, e2, e3, e4⟩ | ⟨rfl, e1, e2, e3, e4⟩ | ⟨rfl, e1, e2, e3, e4⟩ | ⟨rfl, e1, e2, e3, e4⟩
    · rw [e4] at h; cases h
    · rw [e4] at h; cases h
    · rw [e4] at h; cases h
    · rw [e2]; decide
    · rw [e2]; decide
    · rw [e2]; decide
  · rw [e1]; decide
theorem wOf03_some {tp : List Nat} {a : Nat} {x : Nat × Nat} (h : findW tp (partL true) a = some x) : (x = (40, 4) ∧ wOf03 tp a = nI 0 ∧ kw tp wHour a = true) ∨ (x = (41, 5) ∧ wOf03 tp a = nI 1 ∧ kw tp wClock a = true) ∨ (x = (42, 3) ∧ wOf03 tp a = nI 2 ∧ kw tp wDay a = true) := by
  unfold wOf03
  rcases wIx_all tp a with ⟨i, hc⟩ | ⟨e1, e3, e4⟩
  · rcases hc with ⟨rfl, e1, e2, e3, e4⟩ | ⟨rfl, e1, e2, e3, e4⟩ | ⟨rfl, e1, e2, e3, e4⟩ | ⟨rfl, e1, e2, e3, e4⟩ | ⟨rfl, e1, e2, e3, e4⟩ | ⟨rfl, e1, e2, e3, e4⟩
    · exact Or.inl ⟨(Option.some.inj (h.symm.trans e4)), by rw [e2]; decide, e1⟩
    · exact Or.inr (Or.inl ⟨(Option.some.inj (h.symm.trans e4)), by rw [e2]; decide, e1⟩)
    · exact Or.inr (Or.inr ⟨(Option.some.inj (h.symm.trans e4)), by rw [e2]; decide, e1⟩)
    · rw [e4] at h; cases h
    · rw [e4] at h; cases h
    · rw [e4] at h; cases h
  · rw [e4] at h; cases h
theorem c_qEndsBad (h : ¬ gI σ 200 5 = nI 0) : MC G g l (d+1) mX6_qEndsPart [tM] σ (fun r t => r = none ∧ t = σ) := by
  refine MC0 tX6_qEndsPart rfl okX6_qEndsPart rfl rfl rfl rfl (fun P => ?_)
  exact And.intro (fun _ => ⟨rfl, rfl⟩) (fun q => absurd q h)
end QW_
