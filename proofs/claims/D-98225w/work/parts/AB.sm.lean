section SM_
variable (G : CX) (g : GX) (l : Launch) (d : Nat) (σ : AS)
theorem MRS.b5 {rs : RS} {C : List Nat} {σ : AS} {v : Nat} {x : Int32} (h : MRS rs C σ) (hx : x = nI v) (hv : v ≤ 999) : MRS (addB rs v) C (sI σ 200 32 x) := by
  obtain ⟨h0, h1, h2, h3, h4, h5, ⟨h6, h6a, h6b⟩, h7⟩ := h
  have hS : mS [32] [] σ (sI σ 200 32 x) := mS.rf.f rfl
  refine ⟨⟨h0.1, hv, h0.2.2⟩, h1.keep hS rfl, by rw [hS.i 200 33 rfl rfl]; exact h2, by rw [gI_sI, if_pos ⟨rfl, rfl⟩]; exact hx, fun k z hz => ?_, fun k z hz => ?_, ⟨by rw [hS.i 200 35 rfl rfl]; exact h6, h6a, fun i v hv => by rw [hS.ia 224 rfl rfl]; exact h6b i v hv⟩, fun k z hz => ?_⟩
  · simp only [hS.ia 222 rfl rfl]; exact h4 k z hz
  · simp only [hS.ia 223 rfl rfl]; exact h5 k z hz
  · simp only [hS.ia 226 rfl rfl, hS.ia 227 rfl rfl]; exact h7 k z hz
theorem MRS.cnt {rs : RS} {C : List Nat} {σ : AS} {x : Int32} (h : MRS rs C σ) (hx : x = nI (rs.1 + 1)) (hr : rs.1 < 70) : MRS (cntS rs) C (sI σ 200 33 x) := by
  obtain ⟨h0, h1, h2, h3, h4, h5, ⟨h6, h6a, h6b⟩, h7⟩ := h
  have hS : mS [33] [] σ (sI σ 200 33 x) := mS.rf.f rfl
  refine ⟨⟨by show rs.1 + 1 ≤ 70; omega, h0.2⟩, h1.keep hS rfl, by rw [gI_sI, if_pos ⟨rfl, rfl⟩]; exact hx, by rw [hS.i 200 32 rfl rfl]; exact h3, fun k z hz => ?_, fun k z hz => ?_, ⟨by rw [hS.i 200 35 rfl rfl]; exact h6, h6a, fun i v hv => by rw [hS.ia 224 rfl rfl]; exact h6b i v hv⟩, fun k z hz => ?_⟩
  · simp only [hS.ia 222 rfl rfl]; exact h4 k z hz
  · simp only [hS.ia 223 rfl rfl]; exact h5 k z hz
  · simp only [hS.ia 226 rfl rfl, hS.ia 227 rfl rfl]; exact h7 k z hz
set_option maxHeartbeats 4000000 in
theorem c_statementTold (tp : List Nat) (rs : RS) (C : List Nat) (a : Nat) (hO : PO tp a a σ) (hW : Wds σ) (hR : MRS rs C σ) (hC : C.length ≤ a) :
    MC G g l (d+8) mX6_statementTold [tM] σ (fun r t => r = none ∧ rS σ t ∧ PRt tp (fun z b t => ∃ C' : List Nat, C'.length ≤ b ∧ MRS z C' t) (stmtP tp rs a) t) := by
  have hal : a ≤ tp.length ∧ tp.length ≤ 1600 := ⟨hO.2.2.2.2.1, hO.1.len⟩
  have hp : gI σ 200 2 = nI a := hO.2.2.1
  have r70 := hR.1.1
  generalize hres : stmtP tp rs a = res
  refine MC1 tX6_statementTold [49] rfl okX6_statementTold rfl rfl rfl rfl (fun P hP => ?_)
  refine hP _ _ _ _ ?_
  have h33 : gI σ 200 33 = nI rs.1 := hR.2.2.1
  by_cases e70 : rs.1 = 70
  · refine And.intro (fun q => absurd (show gI σ 200 33 = nI 70 from by rw [h33, e70]) q) (fun _ => ?_)
    refine mcall (c_fail0 G g l (d+6) σ tp hO.1 hO.2.1 _ _ 5 a rfl hp (by omega) (by omega) (by omega)) (fun r s1 h8 => ?_)
    obtain ⟨rfl, S1, F1⟩ := h8
    refine ⟨rfl, rS.of S1 rfl, ?_⟩
    have e9 : res = .error (5, a) := by rw [← hres]; unfold stmtP; rw [if_pos e70]
    rw [e9]
    exact F1
  have hE : ∀ f, oneP tp rs a = .error f → res = .error f := fun f h => by rw [← hres]; unfold stmtP; rw [if_neg e70, h]
  have hK : ∀ z f, oneP tp rs a = .ok z → askS tp 59 z.2 = .error f → res = .error f := fun z f h h2 => by rw [← hres]; unfold stmtP; rw [if_neg e70, h]; simp only [h2]
  have hJ : ∀ z b, oneP tp rs a = .ok z → askS tp 59 z.2 = .ok b → res = .ok (cntS z.1, b) := fun z b h h2 => by rw [← hres]; unfold stmtP; rw [if_neg e70, h]; simp only [h2]
  -- behind the statement
  have fin : ∀ (τ : AS) (x1 : Option AV), rS σ τ → PRt tp (fun z b t => ∃ C' : List Nat, C'.length ≤ b ∧ MRS z C' t) (oneP tp rs a) τ → P 49 [some tM, x1] [] τ := by
    intro τ x1 hS h9
    refine hP _ _ _ _ ?_
    cases ho : oneP tp rs a with
    | error f =>
      rw [ho] at h9
      refine mcall (c_asksSign G g l (d+4) τ tp (.error f) h9 _ 59 rfl (by omega) ⟨rfl, rfl⟩) (fun r s1 h8 => ?_)
      obtain ⟨rfl, S1, F1⟩ := h8
      have S2 : mS [33] [] s1 (sI s1 200 33 (gI s1 200 33 + nI 1)) := mS.rf.f rfl
      refine ⟨rfl, (hS.tr (rS.of S1 rfl)).f rfl, ?_⟩
      rw [hE f ho]
      exact PX.keep (S := .error f) F1 S2 rfl
    | ok z =>
      rw [ho] at h9
      obtain ⟨X9, C9, hC9, R9⟩ := h9
      refine mcall (c_asksSign G g l (d+4) τ tp (.ok z.2) X9 _ 59 rfl (by omega) ⟨rfl, rfl⟩) (fun r s1 h8 => ?_)
      obtain ⟨rfl, S1, X1⟩ := h8
      have X1 : PX tp (askS tp 59 z.2) s1 := X1
      have R1 := R9.keep (S1.mono (fs' := [2, 4, 5, 6, 27]) (ids' := []) rfl rfl)
      have hz := oneP_ok hR.1 hal.1 ho
      have S2 : mS [33] [] s1 (sI s1 200 33 (gI s1 200 33 + nI 1)) := mS.rf.f rfl
      have X2 : PX tp (askS tp 59 z.2) (sI s1 200 33 (gI s1 200 33 + nI 1)) := X1.keep S2 rfl
      refine ⟨rfl, (hS.tr (rS.of S1 rfl)).f rfl, ?_⟩
      cases hs : askS tp 59 z.2 with
      | error f =>
        rw [hs] at X2
        rw [hK z f ho hs]
        exact X2
      | ok b =>
        rw [hs] at X2
        rw [hJ z b ho hs]
        obtain ⟨k1, k2⟩ := askS_ok hs
        have k3 := skp_ge tp (z.2 + 1)
        exact ⟨X2, C9, by show C9.length ≤ b; omega, R1.cnt (by rw [R1.2.2.1, nI_add]) (by omega)⟩
  refine And.intro (fun _ => ?_) (fun q => absurd (show gI σ 200 33 = nI 70 from q) (by rw [h33, nI_eq (by omega) (by omega)]; exact e70))
  refine mcall (c_takes_203 G g l (d+4) σ tp (.ok a) ⟨a, hO⟩ (hW.1 0 wPlace rfl)) (fun r s1 h8 => ?_)
  obtain ⟨rfl, S1, X1, E1⟩ := h8
  have Q1 : rS σ s1 := rS.of S1 rfl
  have R1 := hR.keep (S1.mono (fs' := [2, 4, 5, 6, 27]) (ids' := []) rfl rfl)
  cases k1 : kw tp wPlace a with
  | true =>
    rw [show kwS tp wPlace (.ok a) = true from k1]
    rw [show takS tp wPlace (.ok a) = .ok (skp tp (a + 5)) from if_pos k1] at X1
    refine And.intro (fun q => absurd q (by decide)) (fun _ => ?_)
    refine mcall (c_newPlace G g l (d+1) s1 tp rs C _ a X1 (hW.rd Q1) R1 _ hp (by omega)) (fun r s2 h8 => ?_)
    obtain ⟨rfl, Q2, h8⟩ := h8
    refine fin s2 _ (Q1.tr Q2) ?_
    have eo : oneP tp rs a = mapR (addP rs) (plP tp rs.2.2.1 (skp tp (a + 5)) a) := by unfold oneP; rw [if_pos k1]
    rw [eo]
    cases hpl : plP tp rs.2.2.1 (skp tp (a + 5)) a with
    | error f => rw [hpl] at h8; exact h8
    | ok z =>
      rw [hpl] at h8
      have hz : a < z.2 := by
        unfold plP at hpl
        split at hpl
        · cases hpl
        · have := (namF_ok (newF_ok hpl).1).1
          have := skp_ge tp (a + 5)
          omega
      exact ⟨h8.1, C, by show C.length ≤ z.2; omega, h8.2⟩
  | false =>
    rw [show kwS tp wPlace (.ok a) = false from k1]
    have E1 : PE tp (.ok a) s1 := E1 k1
    refine And.intro (fun _ => ?_) (fun q => absurd rfl q)
    refine mcall (c_takes_204 G g l (d+4) s1 tp (.ok a) E1.px ((hW.rd Q1).1 1 wStreet rfl)) (fun r s2 h8 => ?_)
    obtain ⟨rfl, S2, X2, E2⟩ := h8
    have Q2 : rS σ s2 := Q1.tr (rS.of S2 rfl)
    have R2 := R1.keep (S2.mono (fs' := [2, 4, 5, 6, 27]) (ids' := []) rfl rfl)
    cases k2 : kw tp wStreet a with
    | true =>
      rw [show kwS tp wStreet (.ok a) = true from k2]
      rw [show takS tp wStreet (.ok a) = .ok (skp tp (a + 6)) from if_pos k2] at X2
      refine And.intro (fun q => absurd q (by decide)) (fun _ => ?_)
      have hsk := skp_ge tp (a + 6)
      refine mcall (c_newStreet G g l d s2 tp rs C _ a X2 (hW.rd Q2) R2 (by omega) _ hp (by omega)) (fun r s3 h8 => ?_)
      obtain ⟨rfl, Q3, h8⟩ := h8
      refine fin s3 _ (Q2.tr Q3) ?_
      have eo : oneP tp rs a = mapR (addS rs) (stP tp rs.2.2.1 (skp tp (a + 6)) a) := by unfold oneP; rw [if_neg (by rw [k1]; decide), if_pos k2]
      rw [eo]
      cases hpl : stP tp rs.2.2.1 (skp tp (a + 6)) a with
      | error f => rw [hpl] at h8; exact h8
      | ok z => rw [hpl] at h8; exact h8
    | false =>
      rw [show kwS tp wStreet (.ok a) = false from k2]
      have E2 : PE tp (.ok a) s2 := E2 k2
      refine And.intro (fun _ => ?_) (fun q => absurd rfl q)
      refine mcall (c_takes_211 G g l (d+4) s2 tp (.ok a) E2.px ((hW.rd Q2).1 8 wWalker rfl)) (fun r s3 h8 => ?_)
      obtain ⟨rfl, S3, X3, E3⟩ := h8
      have Q3 : rS σ s3 := Q2.tr (rS.of S3 rfl)
      have R3 := R2.keep (S3.mono (fs' := [2, 4, 5, 6, 27]) (ids' := []) rfl rfl)
      cases k3 : kw tp wWalker a with
      | true =>
        rw [show kwS tp wWalker (.ok a) = true from k3]
        rw [show takS tp wWalker (.ok a) = .ok (skp tp (a + 6)) from if_pos k3] at X3
        refine And.intro (fun q => absurd q (by decide)) (fun _ => ?_)
        have hsk := skp_ge tp (a + 6)
        refine mcall (c_newWalker G g l d s3 tp rs C _ a X3 (hW.rd Q3) R3 _ hp (by omega)) (fun r s4 h8 => ?_)
        obtain ⟨rfl, Q4, h8⟩ := h8
        refine fin s4 _ (Q3.tr Q4) ?_
        have eo : oneP tp rs a = mapR (addW rs) (wkP tp rs.2.2.1 (skp tp (a + 6)) a) := by unfold oneP; rw [if_neg (by rw [k1]; decide), if_neg (by rw [k2]; decide), if_pos k3]
        rw [eo]
        cases hpl : wkP tp rs.2.2.1 (skp tp (a + 6)) a with
        | error f => rw [hpl] at h8; exact h8
        | ok z =>
          rw [hpl] at h8
          have := (wkP_ok hpl).2.2.1.1
          exact ⟨h8.1, C, by show C.length ≤ z.2; omega, h8.2⟩
      | false =>
        rw [show kwS tp wWalker (.ok a) = false from k3]
        have E3 : PE tp (.ok a) s3 := E3 k3
        refine And.intro (fun _ => ?_) (fun q => absurd rfl q)
        have eo : oneP tp rs a = mapR (addB rs) (bgP tp a) := by unfold oneP; rw [if_neg (by rw [k1]; decide), if_neg (by rw [k2]; decide), if_neg (by rw [k3]; decide)]
        refine mcall (c_asks_214 G g l (d+3) s3 tp (.ok a) E3.px ((hW.rd Q3).1 11 wBegin rfl)) (fun r s4 h8 => ?_)
        obtain ⟨rfl, S4, X4⟩ := h8
        have X4 : PX tp (askW tp wBegin a) s4 := X4
        have Q4 : rS σ s4 := Q3.tr (rS.of S4 rfl)
        have R4 := R3.keep (S4.mono (fs' := [2, 4, 5, 6, 27]) (ids' := []) rfl rfl)
        refine mcall (c_number G g l (d+5) s4 tp _ X4 _ _ 0 999 rfl rfl (by omega) (by omega)) (fun r s5 h8 => ?_)
        obtain ⟨S5, X5, v, rfl, V5⟩ := h8
        have X5 : PX tp (posOf (bgP tp a)) s5 := by rw [bgP, posOf_rP]; exact X5
        have Q5 : rS σ s5 := Q4.tr (rS.of S5 rfl)
        have R5 := R4.keep (S5.mono (fs' := [2, 4, 5, 6, 27]) (ids' := []) rfl rfl)
        have X6 : PX tp (posOf (bgP tp a)) (sI s5 200 32 v) := X5.keep (fs := [32]) (ids := []) (mS.rf.f rfl) rfl
        refine fin (sI s5 200 32 v) _ (Q5.f rfl) ?_
        rw [eo]
        cases hb : bgP tp a with
        | error f => rw [hb] at X6; exact X6
        | ok z =>
          rw [hb] at X6
          have hz := bgP_ok hb
          obtain ⟨b1, g1, g2⟩ := rP_ok hb
          exact ⟨X6, C, by show C.length ≤ z.2; omega, R5.b5 (V5 b1 z g1 g2) hz.1⟩
end SM_
