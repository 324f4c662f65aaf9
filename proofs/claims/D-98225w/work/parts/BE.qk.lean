/-- the word that a question begins with -/
def kindP (tp : List Nat) (a : Nat) : PR Nat := if kw tp wFirst a = true then .ok (0, skp tp (a + 5)) else if kw tp wLast a = true then .ok (1, skp tp (a + 4)) else if kw tp wOften a = true then .ok (2, skp tp (a + 5)) else if kw tp wTotal a = true then .ok (3, skp tp (a + 5)) else if kw tp wMost a = true then .ok (4, skp tp (a + 4)) else match askW tp wLeast a with
  | .ok b => .ok (5, b)
  | .error f => .error f
section QK_
variable (G : CX) (g : GX) (l : Launch) (d : Nat) (σ : AS)
theorem c_qKind (tp : List Nat) (a : Nat) (h : PX tp (.ok a) σ) (hW : Wds σ) : MC G g l (d+5) mX6_qKind [tM] σ (fun r t => mS [2, 4, 5, 6] [] σ t ∧ PX tp (posOf (kindP tp a)) t ∧ ∃ v, r = some (iv v) ∧ ∀ z, kindP tp a = .ok z → v = nI z.1) := by
  generalize hres : kindP tp a = res
  refine MC1 tX6_qKind [36, 44] rfl okX6_qKind rfl rfl rfl rfl (fun P hP => ?_)
  have fin : ∀ (τ : AS) (k b : Nat), k < 5 → mS [2, 4] [] σ τ → PX tp (.ok b) τ → res = .ok (k, b) → P 36 [some tM, none] [iv (nI k)] τ := by
    intro τ k b hk hS hX hr
    refine hP _ _ _ _ (And.intro (fun _ => ?_) (fun q => absurd (show nI k = nI 5 from q) (by rw [nI_eq (by omega) (by omega)]; omega)))
    refine hP _ _ _ _ ?_
    rw [hr]
    exact ⟨hS.mono rfl rfl, hX, _, rfl, fun z hz => by cases hz; rfl⟩
  refine hP _ _ _ _ ?_
  refine mcall (c_takes_246 G g l (d+1) σ tp (.ok a) h (hW.2 0 wFirst rfl)) (fun r s1 h9 => ?_)
  obtain ⟨rfl, S1, X1, E1⟩ := h9
  have Q1 : mS [2, 4] [] σ s1 := S1
  cases k0 : kw tp wFirst a with
  | true =>
    rw [show kwS tp wFirst (.ok a) = true from k0]
    rw [show takS tp wFirst (.ok a) = .ok (skp tp (a + 5)) from if_pos k0] at X1
    refine And.intro (fun q => absurd q (by decide)) (fun _ => ?_)
    exact fin s1 0 _ (by omega) Q1 X1 (by rw [← hres]; unfold kindP; rw [if_pos k0])
  | false =>
    rw [show kwS tp wFirst (.ok a) = false from k0]
    have E1 : PE tp (.ok a) s1 := E1 k0
    refine And.intro (fun _ => ?_) (fun q => absurd rfl q)
    refine mcall (c_takes_247 G g l (d+1) s1 tp (.ok a) E1.px ((hW.keep Q1 rfl).2 1 wLast rfl)) (fun r s2 h9 => ?_)
    obtain ⟨rfl, S2, X2, E2⟩ := h9
    have Q2 : mS [2, 4] [] σ s2 := Q1.tr S2
    cases k1 : kw tp wLast a with
    | true =>
      rw [show kwS tp wLast (.ok a) = true from k1]
      rw [show takS tp wLast (.ok a) = .ok (skp tp (a + 4)) from if_pos k1] at X2
      refine And.intro (fun q => absurd q (by decide)) (fun _ => ?_)
      exact fin s2 1 _ (by omega) Q2 X2 (by rw [← hres]; unfold kindP; rw [if_neg (by rw [k0]; decide), if_pos k1])
    | false =>
      rw [show kwS tp wLast (.ok a) = false from k1]
      have E2 : PE tp (.ok a) s2 := E2 k1
      refine And.intro (fun _ => ?_) (fun q => absurd rfl q)
      refine mcall (c_takes_248 G g l (d+1) s2 tp (.ok a) E2.px ((hW.keep Q2 rfl).2 2 wOften rfl)) (fun r s3 h9 => ?_)
      obtain ⟨rfl, S3, X3, E3⟩ := h9
      have Q3 : mS [2, 4] [] σ s3 := Q2.tr S3
      cases k2 : kw tp wOften a with
      | true =>
        rw [show kwS tp wOften (.ok a) = true from k2]
        rw [show takS tp wOften (.ok a) = .ok (skp tp (a + 5)) from if_pos k2] at X3
        refine And.intro (fun q => absurd q (by decide)) (fun _ => ?_)
        exact fin s3 2 _ (by omega) Q3 X3 (by rw [← hres]; unfold kindP; rw [if_neg (by rw [k0]; decide), if_neg (by rw [k1]; decide), if_pos k2])
      | false =>
        rw [show kwS tp wOften (.ok a) = false from k2]
        have E3 : PE tp (.ok a) s3 := E3 k2
        refine And.intro (fun _ => ?_) (fun q => absurd rfl q)
        refine mcall (c_takes_249 G g l (d+1) s3 tp (.ok a) E3.px ((hW.keep Q3 rfl).2 3 wTotal rfl)) (fun r s4 h9 => ?_)
        obtain ⟨rfl, S4, X4, E4⟩ := h9
        have Q4 : mS [2, 4] [] σ s4 := Q3.tr S4
        cases k3 : kw tp wTotal a with
        | true =>
          rw [show kwS tp wTotal (.ok a) = true from k3]
          rw [show takS tp wTotal (.ok a) = .ok (skp tp (a + 5)) from if_pos k3] at X4
          refine And.intro (fun q => absurd q (by decide)) (fun _ => ?_)
          exact fin s4 3 _ (by omega) Q4 X4 (by rw [← hres]; unfold kindP; rw [if_neg (by rw [k0]; decide), if_neg (by rw [k1]; decide), if_neg (by rw [k2]; decide), if_pos k3])
        | false =>
          rw [show kwS tp wTotal (.ok a) = false from k3]
          have E4 : PE tp (.ok a) s4 := E4 k3
          refine And.intro (fun _ => ?_) (fun q => absurd rfl q)
          refine mcall (c_takes_250 G g l (d+1) s4 tp (.ok a) E4.px ((hW.keep Q4 rfl).2 4 wMost rfl)) (fun r s5 h9 => ?_)
          obtain ⟨rfl, S5, X5, E5⟩ := h9
          have Q5 : mS [2, 4] [] σ s5 := Q4.tr S5
          cases k4 : kw tp wMost a with
          | true =>
            rw [show kwS tp wMost (.ok a) = true from k4]
            rw [show takS tp wMost (.ok a) = .ok (skp tp (a + 4)) from if_pos k4] at X5
            refine And.intro (fun q => absurd q (by decide)) (fun _ => ?_)
            exact fin s5 4 _ (by omega) Q5 X5 (by rw [← hres]; unfold kindP; rw [if_neg (by rw [k0]; decide), if_neg (by rw [k1]; decide), if_neg (by rw [k2]; decide), if_neg (by rw [k3]; decide), if_pos k4])
          | false =>
            rw [show kwS tp wMost (.ok a) = false from k4]
            have E5 : PE tp (.ok a) s5 := E5 k4
            refine And.intro (fun _ => ?_) (fun q => absurd rfl q)
            refine hP _ _ _ _ (And.intro (fun q => absurd rfl q) (fun _ => ?_))
            refine mcall (c_asks_251 G g l d s5 tp (.ok a) E5.px ((hW.keep Q5 rfl).2 5 wLeast rfl)) (fun r s6 h9 => ?_)
            obtain ⟨rfl, S6, X6⟩ := h9
            have X6 : PX tp (askW tp wLeast a) s6 := X6
            refine hP _ _ _ _ ?_
            have hr : res = match askW tp wLeast a with
                | .ok b => .ok (5, b)
                | .error f => .error f := by
              rw [← hres]
              unfold kindP
              rw [if_neg (by rw [k0]; decide), if_neg (by rw [k1]; decide), if_neg (by rw [k2]; decide), if_neg (by rw [k3]; decide), if_neg (by rw [k4]; decide)]
            cases hk : askW tp wLeast a with
            | ok b =>
              rw [hk] at hr X6
              rw [hr]
              exact ⟨(Q5.mono rfl rfl).tr S6, X6, _, rfl, fun z hz => by cases hz; rfl⟩
            | error f =>
              rw [hk] at hr X6
              rw [hr]
              exact ⟨(Q5.mono rfl rfl).tr S6, X6, _, rfl, fun z hz => by cases hz⟩
end QK_
