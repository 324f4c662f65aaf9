/-! the questions' tests in the reference: a fact, nots, squares -/
def qS (σ t : AS) : Prop := mS [2, 4, 5, 6, 89, 91, 92, 93] [264, 265] σ t
def FaR (tp V C : List Nat) (o : Nat) (res : PR (List Nat)) (t : AS) : Prop := match res with
  | .ok x => PX tp (.ok x.2) t ∧ MFq V (C ++ x.1) o t
  | .error f => PF tp f t
def cntT (W : List Nat) : Nat := (W.filter (fun v => decide (12 ≤ v))).length
theorem cntT_c (v : Nat) (W : List Nat) : cntT (v :: W) = (if 12 ≤ v then 1 else 0) + cntT W := by
  unfold cntT
  rw [List.filter_cons]
  by_cases h : 12 ≤ v
  · rw [if_pos (decide_eq_true h), if_pos h, List.length_cons]; omega
  · rw [if_neg (by rw [decide_eq_false h]; decide), if_neg h]; omega
section QF_
variable (G : CX) (g : GX) (l : Launch) (d : Nat) (σ : AS)
theorem c_qCodeBad (n : Nat) (h : gI σ 200 89 = nI n) (hn : n ≤ 1600) (x : Int32) : MC G g l (d+1) mX6_qCode [tM, iv x] σ (fun r t => r = none ∧ mS [89] [264] σ t) := by
  refine MC0 tX6_qCode rfl okX6_qCode rfl rfl rfl rfl (fun P => ?_)
  refine And.intro (show vp_in (gI σ 200 89) 1700 from by rw [h]; exact vinN (by omega) (by decide)) ?_
  exact ⟨rfl, (mS.rf.a rfl).f rfl⟩
set_option maxHeartbeats 1000000 in
theorem c_qFact (tp V C : List Nat) (o a : Nat) (hX : PX tp (.ok a) σ) (hM : MFq V C o σ) (hC : C.length + V.length < a) (hV : topN isOp V) (hW : Wds σ) : MC G g l (d+8) mX6_qFact [tM] σ (fun r t => r = none ∧ qS σ t ∧ gI t 200 93 = gI σ 200 93 ∧ FaR tp V C o (factP tp o a) t) := by
  have hal : a ≤ tp.length ∧ tp.length ≤ 1600 := by obtain ⟨a', h1⟩ := hX; exact ⟨h1.2.2.2.2.1, h1.1.len⟩
  generalize hres : factP tp o a = res
  refine MC1 tX6_qFact [33, 41, 53] rfl okX6_qFact rfl rfl rfl rfl (fun P hP => ?_)
  refine hP _ _ _ _ ?_
  refine mcall (c_takes_255 G g l (d+4) σ tp (.ok a) hX (hW.2 9 wAll rfl)) (fun r s1 h9 => ?_)
  obtain ⟨rfl, S1, X1, E1⟩ := h9
  have Q1 : qS σ s1 := S1.mono rfl rfl
  have b1 : gI s1 200 93 = gI σ 200 93 := S1.i 200 93 rfl rfl
  have M1 := hM.keep S1 rfl
  cases k1 : kw tp wAll a with
  | true =>
    rw [show kwS tp wAll (.ok a) = true from k1]
    refine And.intro (fun q => absurd q (by decide)) (fun _ => ?_)
    rw [show takS tp wAll (.ok a) = .ok (skp tp (a + 3)) from if_pos k1] at X1
    refine mcall (c_qCode G g l (d+6) s1 V C o 13 M1 _ rfl (by omega)) (fun r s2 h9 => ?_)
    obtain ⟨rfl, S2, H2, M2⟩ := h9
    have hr : res = .ok ([13], skp tp (a+3)) := by rw [← hres]; unfold factP; rw [if_pos k1]
    rw [hr]
    exact ⟨rfl, Q1.tr (S2.mono rfl rfl), by rw [S2.i 200 93 rfl rfl]; exact b1, X1.keep S2 rfl, M2⟩
  | false =>
    rw [show kwS tp wAll (.ok a) = false from k1]
    have nk : ¬ kw tp wAll a = true := by rw [k1]; decide
    have E1 : PE tp (.ok a) s1 := E1 k1
    refine And.intro (fun _ => ?_) (fun q => absurd rfl q)
    refine mcall (c_qSums G g l d s1 tp V C o a E1.px M1 hC hV (hW.keep S1 rfl)) (fun r s2 h9 => ?_)
    obtain ⟨rfl, S2, B2, R2⟩ := h9
    have Q2 : qS σ s2 := Q1.tr S2.1
    have b2 : gI s2 200 93 = gI σ 200 93 := B2.trans b1
    cases hs : sumP true tp o a with
    | error f =>
      rw [hs] at R2
      have F2 : PF tp f s2 := R2.1
      refine And.intro (fun q => absurd q (pf_bad F2)) (fun _ => ?_)
      have hr : res = .error f := by rw [← hres]; unfold factP; rw [if_neg nk, hs]
      rw [hr]
      exact ⟨rfl, Q2, b2, F2⟩
    | ok x =>
      rw [hs] at R2
      obtain ⟨X2, M2⟩ := R2
      obtain ⟨-, g2, g3, g4⟩ := sumP_good hal.1 hs
      refine And.intro (fun _ => ?_) (fun q => absurd (PE.bad0 X2) q)
      obtain ⟨a2, O2⟩ := X2
      refine mcall (c_look G g l (d+6) s2 tp x.2 a2 O2) (fun r s3 h9 => ?_)
      obtain ⟨rfl, S3, O3⟩ := h9
      have Q3 : qS σ s3 := Q2.tr (S3.mono rfl rfl)
      have b3 : gI s3 200 93 = gI σ 200 93 := by rw [S3.i 200 93 rfl rfl]; exact b2
      have M3 := M2.keep S3 rfl
      have sg : ∀ (c k : Nat), tp[x.2]? = some c → sgnC tp x.2 = some k → (c = 60 ∧ k = 7 ∨ c = 62 ∧ k = 8 ∨ c = 61 ∧ k = 9) → P 33 [some tM, some (iv (nI c))] [] s3 := by
        intro c k hc hk hck
        have hcl := get_lt hc
        have ncl : isL c = false ∧ isD c = false := by rcases hck with ⟨rfl, -⟩ | ⟨rfl, -⟩ | ⟨rfl, -⟩ <;> exact ⟨rfl, rfl⟩
        have X4 := O3.inc hc ncl rfl
        have S4 : mS [2] [] s3 (sI s3 200 2 (gI s3 200 2 + nI 1)) := mS.rf.f rfl
        refine hP _ _ _ _ ?_
        show callP G (true, g) l (d+8) mX6_qSums [tM] (sI s3 200 2 (gI s3 200 2 + nI 1)) _ _
        generalize sI s3 200 2 (gI s3 200 2 + nI 1) = s4 at *
        have Q4 : qS σ s4 := Q3.tr (S4.mono rfl rfl)
        have k2 := skp_ge tp (x.2+1)
        have k3 := skp_le (tp := tp) (a := x.2+1) (by omega)
        refine mcall (c_qSums G g l d s4 tp V (C ++ x.1) o (skp tp (x.2+1)) X4 (M3.keep S4 rfl) (by rw [List.length_append]; omega) hV (hW.keep Q4 rfl)) (fun r s5 h9 => ?_)
        obtain ⟨rfl, S5, B5, R5⟩ := h9
        have Q5 : qS σ s5 := Q4.tr S5.1
        have b5 : gI s5 200 93 = gI σ 200 93 := by rw [B5, S4.i 200 93 rfl rfl]; exact b3
        show P 41 [some tM, some (iv (nI c))] [] s5
        have fin : ∀ (v : Int32), v = nI k → P 53 [some tM, some (iv (nI c))] [iv v, tM] s5 := by
          intro v hv
          refine hP _ _ _ _ ?_
          cases hs2 : sumP true tp o (skp tp (x.2+1)) with
          | error f =>
            rw [hs2] at R5
            obtain ⟨F5, n, hn, hc5⟩ := R5
            refine mcall (c_qCodeBad G g l (d+6) s5 n hc5 hn v) (fun r s6 h9 => ?_)
            obtain ⟨rfl, S6⟩ := h9
            have hr : res = .error f := by rw [← hres]; unfold factP; rw [if_neg nk, hs]; simp only [hk, hs2]
            rw [hr]
            exact ⟨rfl, Q5.tr (S6.mono rfl rfl), by rw [S6.i 200 93 rfl rfl]; exact b5, PX.keep (S := .error f) F5 S6 rfl⟩
          | ok y =>
            rw [hs2] at R5
            obtain ⟨X5, M5⟩ := R5
            obtain ⟨-, l2, l3, l4⟩ := sumP_good k3 hs2
            refine mcall (c_qCode G g l (d+6) s5 V (C ++ x.1 ++ y.1) o k M5 v hv (by rw [List.length_append, List.length_append]; omega)) (fun r s6 h9 => ?_)
            obtain ⟨rfl, S6, H6, M6⟩ := h9
            have hr : res = .ok (x.1 ++ y.1 ++ [k], y.2) := by rw [← hres]; unfold factP; rw [if_neg nk, hs]; simp only [hk, hs2]
            rw [hr]
            refine ⟨rfl, Q5.tr (S6.mono rfl rfl), by rw [S6.i 200 93 rfl rfl]; exact b5, X5.keep S6 rfl, ?_⟩
            show MFq V (C ++ (x.1 ++ y.1 ++ [k])) o s6
            rw [← List.append_assoc, ← List.append_assoc]
            exact M6
        refine hP _ _ _ _ ?_
        rcases hck with ⟨rfl, rfl⟩ | ⟨rfl, rfl⟩ | ⟨rfl, rfl⟩
        · exact And.intro (fun q => absurd rfl q) (fun _ => fin _ rfl)
        · exact And.intro (fun _ => And.intro (fun q => absurd rfl q) (fun _ => fin _ rfl)) (fun q => absurd q (by decide))
        · exact And.intro (fun _ => And.intro (fun _ => fin _ rfl) (fun q => absurd q (by decide))) (fun q => absurd q (by decide))
      by_cases h60 : tp[x.2]? = some 60
      · rw [(byI_eq O3.1.1 x.2 60 (by omega)).mpr h60]
        exact And.intro (fun _ => sg 60 7 h60 (by unfold sgnC; rw [if_pos h60]) (by omega)) (fun q => absurd rfl q)
      by_cases h62 : tp[x.2]? = some 62
      · rw [(byI_eq O3.1.1 x.2 62 (by omega)).mpr h62]
        exact And.intro (fun q => absurd q (by decide)) (fun _ => And.intro (fun _ => sg 62 8 h62 (by unfold sgnC; rw [if_neg h60, if_pos h62]) (by omega)) (fun q => absurd rfl q))
      by_cases h61 : tp[x.2]? = some 61
      · rw [(byI_eq O3.1.1 x.2 61 (by omega)).mpr h61]
        exact And.intro (fun q => absurd q (by decide)) (fun _ => And.intro (fun q => absurd q (by decide)) (fun _ => And.intro (fun _ => sg 61 9 h61 (by unfold sgnC; rw [if_neg h60, if_neg h62, if_pos h61]) (by omega)) (fun q => absurd rfl q)))
      refine And.intro (fun q => absurd ((byI_eq O3.1.1 x.2 60 (by omega)).mp q) h60) (fun _ => And.intro (fun q => absurd ((byI_eq O3.1.1 x.2 62 (by omega)).mp q) h62) (fun _ => And.intro (fun q => absurd ((byI_eq O3.1.1 x.2 61 (by omega)).mp q) h61) (fun _ => ?_)))
      refine mcall (c_fail0 G g l (d+6) s3 tp O3.1 O3.2.1 _ _ 1 x.2 rfl O3.2.2.1 (by omega) (by omega) (by omega)) (fun r s4 h9 => ?_)
      obtain ⟨rfl, S4, F4⟩ := h9
      have hr : res = .error (1, x.2) := by
        rw [← hres]
        unfold factP
        rw [if_neg nk, hs]
        have : sgnC tp x.2 = none := by unfold sgnC; rw [if_neg h60, if_neg h62, if_neg h61]
        simp only [this]
      rw [hr]
      exact ⟨rfl, Q3.tr (S4.mono rfl rfl), by rw [S4.i 200 93 rfl rfl]; exact b3, F4⟩
theorem c_qDropsNots (W C : List Nat) (o : Nat) (h : MFq W C o σ) (h5 : gI σ 200 5 = nI 0) (hc : cntT W ≤ o) : MC G g l (d+3) mX6_qDropsNots [tM] σ (fun r t => r = none ∧ mS [89, 91, 92] [264] σ t ∧ MFq (drN W C o).1 (drN W C o).2.1 (drN W C o).2.2 t) := by
  refine MC1 tX6_qDropsNots [0] rfl okX6_qDropsNots rfl rfl rfl rfl (fun P hP => ?_)
  have key : ∀ (W' C' : List Nat) (o' : Nat) (τ : AS), drN W C o = drN W' C' o' → cntT W' ≤ o' → mS [89, 91, 92] [264] σ τ → MFq W' C' o' τ → P 0 [some tM] [] τ := by
    intro W'
    induction W' with
    | nil =>
      intro C' o' τ e1 hc S1 M1
      have g5 : gI τ 200 5 = nI 0 := by rw [S1.i 200 5 rfl rfl]; exact h5
      refine hP _ _ _ _ (And.intro (fun q => absurd g5 q) (fun _ => ?_))
      refine mcall (c_qIsOn G g l (d+1) τ [] C' o' 12 M1 _ rfl (by omega)) (fun r s2 h9 => ?_)
      obtain ⟨rfl, rfl⟩ := h9
      exact And.intro (fun _ => ⟨rfl, S1, by rw [e1]; exact M1⟩) (fun q => absurd rfl q)
    | cons v W'' ih =>
      intro C' o' τ e1 hc S1 M1
      have g5 : gI τ 200 5 = nI 0 := by rw [S1.i 200 5 rfl rfl]; exact h5
      refine hP _ _ _ _ (And.intro (fun q => absurd g5 q) (fun _ => ?_))
      refine mcall (c_qIsOn G g l (d+1) τ (v :: W'') C' o' 12 M1 _ rfl (by omega)) (fun r s2 h9 => ?_)
      obtain ⟨rfl, e9⟩ := h9
      subst e9
      by_cases hv : v = 12
      · subst hv
        rw [show decide (List.head? (12 :: W'') = some 12) = true from rfl]
        refine And.intro (fun q => absurd q (by decide)) (fun _ => ?_)
        rw [cntT_c, if_pos (by omega)] at hc
        have M3 := M1.deco rfl (by omega)
        have S3 : mS [92] [] s2 (sI s2 200 92 (gI s2 200 92 - nI 1)) := mS.rf.f rfl
        refine mcall (c_qDrops G g l d _ W'' C' (o' - 1) 12 M3) (fun r s3 h9 => ?_)
        obtain ⟨rfl, S2, H2, M2⟩ := h9
        refine ih (C' ++ [12]) (o' - 1) s3 ?_ (by omega) (S1.tr ((S3.mono rfl rfl).tr (S2.mono rfl rfl))) M2
        rw [e1]
        rfl
      · rw [show decide (List.head? (v :: W'') = some 12) = false from decide_eq_false (by simpa using hv)]
        refine And.intro (fun _ => ⟨rfl, S1, ?_⟩) (fun q => absurd rfl q)
        rw [e1]
        show MFq (if v = 12 then drN W'' (C' ++ [v]) (o' - 1) else (v :: W'', C', o')).1 (if v = 12 then drN W'' (C' ++ [v]) (o' - 1) else (v :: W'', C', o')).2.1 (if v = 12 then drN W'' (C' ++ [v]) (o' - 1) else (v :: W'', C', o')).2.2 s2
        rw [if_neg hv]
        exact M1
  exact key W C o σ rfl hc mS.rf h
theorem c_qNotsBad (h : ¬ gI σ 200 5 = nI 0) : MC G g l (d+1) mX6_qDropsNots [tM] σ (fun r t => r = none ∧ t = σ) := by
  refine MC0 tX6_qDropsNots rfl okX6_qDropsNots rfl rfl rfl rfl (fun P => ?_)
  exact And.intro (fun _ => ⟨rfl, rfl⟩) (fun q => absurd q h)
theorem c_qHasSquare (W C : List Nat) (o : Nat) (h : MFq W C o σ) : MC G g l (d+1) mX6_qHasSquare [tM] σ (fun r t => r = some (iv (bI (decide (25 ∈ W)))) ∧ t = σ) := by
  obtain ⟨h1, h2, h3, h4, h5, h6, h7, h8⟩ := h
  refine MC1 tX6_qHasSquare [2] rfl okX6_qHasSquare rfl rfl rfl rfl (fun P hP => ?_)
  have key : ∀ (m k : Nat), k + m = W.length → (∀ j, j < k → ¬ W.reverse[j]? = some 25) → P 2 [some tM, some (iv (nI k))] [] σ := by
    intro m
    induction m with
    | zero =>
      intro k hk hn
      refine hP _ _ _ _ (And.intro (fun _ => ?_) (fun q => absurd (show gI σ 200 91 ≤ nI k from by rw [h2]; exact nI_le (by omega) (by omega)) q))
      have hno : 25 ∉ W := fun q => by
        obtain ⟨j, hj⟩ := List.getElem?_of_mem (List.mem_reverse.mpr q)
        have hjl := (List.getElem?_eq_some_iff.mp hj).1
        rw [List.length_reverse] at hjl
        exact hn j (by omega) hj
      exact ⟨nar0, by rw [decide_eq_false hno]; rfl, rfl⟩
    | succ m ih =>
      intro k hk hn
      refine hP _ _ _ _ (And.intro (fun q => absurd q (show ¬ gI σ 200 91 ≤ nI k from by rw [h2]; exact nI_ge (by omega) (by omega))) (fun _ => And.intro (show vp_in (nI k) 1700 from vinN (by omega) (by decide)) ?_))
      obtain ⟨v, hv⟩ : ∃ v, W.reverse[k]? = some v := ⟨_, List.getElem?_eq_getElem (by rw [List.length_reverse]; omega)⟩
      have hm : v ∈ W := List.mem_reverse.mp (List.mem_of_getElem? hv)
      have hv9 := h6 v hm
      have hg : gI σ 265 (nI k).toNatClampNeg = nI v := by rw [clN (by omega)]; exact h5 k v hv
      refine And.intro (fun q => ?_) (fun q => ?_)
      · have q0 : ¬ gI σ 265 (nI k).toNatClampNeg = nI 25 := q
        rw [hg, nI_eq (by omega) (by omega)] at q0
        show P 2 [some tM, some (iv (nI k + nI 1))] [] σ
        rw [nI_add]
        refine ih (k+1) (by omega) (fun j hj => ?_)
        by_cases hjk : j = k
        · rw [hjk, hv]; intro e; cases e; exact q0 rfl
        · exact hn j (by omega)
      · have q0 : gI σ 265 (nI k).toNatClampNeg = nI 25 := q
        rw [hg, nI_eq (by omega) (by omega)] at q0
        subst q0
        exact ⟨nar1, by rw [decide_eq_true hm]; rfl, rfl⟩
  exact hP _ _ _ _ (key W.length 0 (by omega) (fun j hj => absurd hj (Nat.not_lt_zero j)))
end QF_
