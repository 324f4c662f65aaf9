section Y2_q
variable (G : CX) (g : GX) (l : Launch) (d : Nat) (σ : AS)
theorem MYq.top {V W C : List Nat} {o v : Nat} {σ : AS} (h : MYq V (v :: W) C o σ) : gI σ 265 (W ++ V).length = nI v ∧ v ≤ 100 := h.1.top
theorem c_qBracket (V W C : List Nat) (o : Nat) (h : MYq V W C o σ) :
    MC G g l (d+2) mX6_qBracket [tM] σ (fun r t => r = some (iv (optI (lastM W))) ∧ t = σ) := by
  obtain ⟨⟨h1, h2, h3, h4, h5, h6, h7, h8⟩, h9⟩ := h
  rw [List.length_append] at h2 h8
  refine MC1 tX6_qBracket [5, 17] rfl okX6_qBracket rfl rfl rfl rfl (fun P hP => ?_)
  have key : ∀ (U W' : List Nat), W = U ++ W' → lastM W = lastM W' → P 5 [some tM, some (iv (nI (V.length + W'.length) - nI 1))] [] σ := by
    intro U W'
    induction W' generalizing U with
    | nil =>
      intro e1 e2
      have hb : nI (V.length + ([] : List Nat).length) - nI 1 < gI σ 200 93 := by
        rw [h9]; exact (m1_lt (by simp; omega) (by omega)).mpr (by simp)
      refine hP _ _ _ _ (And.intro (fun _ => ?_) (fun q => absurd hb q))
      exact hP _ _ _ _ (And.intro (fun _ => ⟨by rw [e2]; rfl, rfl⟩) (fun q => absurd hb q))
    | cons v W'' ih =>
      intro e1 e2
      have el : W.length = U.length + (W''.length + 1) := by rw [e1, List.length_append, List.length_cons]
      have hk : nI (V.length + (v :: W'').length) - nI 1 = nI (V.length + W''.length) := by
        rw [List.length_cons, nI_s1 _ _ (by omega)]
        congr 1
      have hb : ¬ nI (V.length + (v :: W'').length) - nI 1 < gI σ 200 93 := by
        rw [h9, m1_lt (by simp; omega) (by omega)]; simp
      have hv : gI σ 265 (V.length + W''.length) = nI v := by
        refine h5 _ v ?_
        rw [e1, List.append_assoc, List.cons_append]
        have := rev_top U (W'' ++ V) v
        rw [List.length_append, Nat.add_comm] at this
        exact this
      have hv9 : v ≤ 100 := h6 v (by rw [e1]; simp)
      have hin : vp_in (nI (V.length + (v :: W'').length) - nI 1) 1700 := by rw [hk]; exact vinN (by omega) (by decide)
      have hg : gI σ 265 (nI (V.length + (v :: W'').length) - nI 1).toNatClampNeg = nI v := by rw [hk, clN (by omega)]; exact hv
      refine hP _ _ _ _ (And.intro (fun q => absurd q hb) (fun _ => And.intro hin ?_))
      refine mcall (c_qIsBracket G g l d σ _ v hg hv9) (fun r s1 h9 => ?_)
      obtain ⟨rfl, rfl⟩ := h9
      cases hm : isMk v with
      | true =>
        refine And.intro (fun _ => ?_) (fun q => absurd q (by decide))
        refine hP _ _ _ _ (And.intro (fun q => absurd q hb) (fun _ => And.intro hin ⟨?_, rfl⟩))
        show some (iv (gI s1 265 (nI (V.length + (v :: W'').length) - nI 1).toNatClampNeg)) = _
        rw [hg, e2]
        show _ = some (iv (optI (if isMk v = true then some v else lastM W'')))
        rw [if_pos hm]
        rfl
      | false =>
        refine And.intro (fun q => absurd rfl q) (fun _ => ?_)
        show P 5 [some tM, some (iv (nI (V.length + (v :: W'').length) - nI 1 - nI 1))] [] s1
        rw [hk]
        refine ih (U ++ [v]) (by rw [e1]; simp) ?_
        rw [e2]
        show (if isMk v = true then some v else lastM W'') = _
        rw [if_neg (by rw [hm]; decide)]
  refine hP _ _ _ _ ?_
  show P 5 [some tM, some (iv (gI σ 200 91 - nI 1))] [] σ
  rw [h2, Nat.add_comm]
  exact key [] W rfl rfl
theorem c_qDropsToBracket (V W C : List Nat) (o : Nat) (h : MYq V W C o σ) :
    MC G g l (d+3) mX6_qDropsToBracket [tM] σ (fun r t => r = none ∧ mS [89, 91] [264] σ t ∧ (∀ k, 1600 ≤ k → gI t 264 k = gI σ 264 k) ∧ MYq V (dropM W C).1 (dropM W C).2 o t) := by
  refine MC1 tX6_qDropsToBracket [0] rfl okX6_qDropsToBracket rfl rfl rfl rfl (fun P hP => ?_)
  have key : ∀ (W' C' : List Nat) (τ : AS), dropM W C = dropM W' C' → mS [89, 91] [264] σ τ → (∀ k, 1600 ≤ k → gI τ 264 k = gI σ 264 k) → MYq V W' C' o τ → P 0 [some tM] [] τ := by
    intro W'
    induction W' with
    | nil =>
      intro C' τ e1 S1 H1 M1
      have hb : gI τ 200 91 ≤ gI τ 200 93 := by rw [M1.1.2.1, M1.2]; exact Int32.le_refl _
      refine hP _ _ _ _ (And.intro (fun _ => ⟨rfl, S1, H1, ?_⟩) (fun q => absurd hb q))
      rw [e1]
      exact M1
    | cons v W'' ih =>
      intro C' τ e1 S1 H1 M1
      have hl := M1.1.2.2.2.2.2.2.2
      have h2 : gI τ 200 91 = nI ((W'' ++ V).length + 1) := M1.1.2.1
      rw [List.length_append] at hl
      simp only [List.length_cons] at hl
      have hb : ¬ gI τ 200 91 ≤ gI τ 200 93 := by
        rw [h2, M1.2, List.length_append, nI_leI (by omega) (by omega)]
        omega
      have hk : gI τ 200 91 - nI 1 = nI (W'' ++ V).length := by rw [h2, nI_s1 _ _ (by omega)]; rfl
      have hL : (W'' ++ V).length < 1700 := by rw [List.length_append]; omega
      have ht := M1.top
      have hin : vp_in (gI τ 200 91 - nI 1) 1700 := by rw [hk]; exact vinN hL (by decide)
      have hg : gI τ 265 (gI τ 200 91 - nI 1).toNatClampNeg = nI v := by rw [hk, clN (by omega)]; exact ht.1
      refine hP _ _ _ _ (And.intro (fun q => absurd q hb) (fun _ => And.intro hin ?_))
      refine mcall (c_qIsBracket G g l (d+1) τ _ v hg ht.2) (fun r s1 h9 => ?_)
      obtain ⟨rfl, rfl⟩ := h9
      cases hm : isMk v with
      | true =>
        refine And.intro (fun _ => ⟨rfl, S1, H1, ?_⟩) (fun q => absurd q (by decide))
        rw [e1]
        unfold dropM
        rw [if_pos hm]
        exact M1
      | false =>
        refine And.intro (fun q => absurd rfl q) (fun _ => ?_)
        refine mcall (c_qDrops G g l d s1 (W'' ++ V) C' o v M1.1) (fun r s2 h9 => ?_)
        obtain ⟨rfl, S2, H2, M2⟩ := h9
        refine ih (C' ++ [v]) s2 ?_ (S1.tr S2) (fun k hk => (H2 k hk).trans (H1 k hk)) ⟨M2, ?_⟩
        · rw [e1]
          show (if isMk v = true then (v :: W'', C') else dropM W'' (C' ++ [v])) = _
          rw [if_neg (by rw [hm]; decide)]
        · rw [S2.i 200 93 rfl rfl]; exact M1.2
  exact key W C σ rfl mS.rf (fun _ _ => rfl) h
theorem c_qOpens (tp F C : List Nat) (o a : Nat) (hE : PO tp a a σ) (h : MFq F C o σ) (x y : Int32) (v p : Nat) (hx : x = nI v) (hy : y = nI p) (hv : v ≤ 100) (hp : p ≤ 1600) (hb : C.length + F.length < 1600) :
    MC G g l (d+2) mX6_qOpens [tM, iv x, iv y] σ (fun r t => r = none ∧ mS [5, 6, 92, 91] [265] σ t ∧ ((o = 6 ∧ PF tp (4, p) t ∧ MFq F C o t) ∨ (o < 6 ∧ PO tp a a t ∧ MFq (v :: F) C (o+1) t))) := by
  subst hx; subst hy
  have h1 := h.2.1
  have h2 := h.2.2.1
  have h7 := h.2.2.2.2.2.2.1
  refine MC0 tX6_qOpens rfl okX6_qOpens rfl rfl rfl rfl (fun P => ?_)
  refine And.intro (fun _ => ?_) (fun q => absurd hE.2.1 q)
  refine And.intro (fun q => ?_) (fun q => ?_)
  · have q0 : ¬ gI σ 200 92 = nI 6 := q
    rw [h2, nI_eq (by omega) (by omega)] at q0
    have e1 : (gI σ 200 91).toNatClampNeg = F.length := by rw [h1, clN (by omega)]
    have S1 : mS [92] [] σ (sI σ 200 92 (gI σ 200 92 + nI 1)) := mS.rf.f rfl
    have M1 : MFq F C (o+1) (sI σ 200 92 (gI σ 200 92 + nI 1)) := by
      obtain ⟨a1, a2, a3, a4, a5, a6, a7, a8⟩ := h
      exact ⟨by rw [S1.i 200 89 rfl rfl]; exact a1, by rw [S1.i 200 91 rfl rfl]; exact a2, by rw [gI_sI, if_pos ⟨rfl, rfl⟩, a3, nI_add], fun i u e => by rw [S1.ia 264 rfl rfl]; exact a4 i u e, fun i u e => by rw [S1.ia 265 rfl rfl]; exact a5 i u e, a6, by omega, a8⟩
    refine And.intro (show vp_in (gI σ 200 91) 1700 from by rw [h1]; exact vinN (by omega) (by decide)) ?_
    show none = none ∧ mS [5, 6, 92, 91] [265] σ (sI (sI (sI σ 200 92 (gI σ 200 92 + nI 1)) 265 (gI σ 200 91).toNatClampNeg (nI v)) 200 91 (gI σ 200 91 + nI 1)) ∧ _
    have S9 : mS [5, 6, 92, 91] [265] σ (sI (sI (sI σ 200 92 (gI σ 200 92 + nI 1)) 265 (gI σ 200 91).toNatClampNeg (nI v)) 200 91 (gI σ 200 91 + nI 1)) := ((mS.rf.f rfl).a rfl).f rfl
    refine ⟨rfl, S9, Or.inr ⟨by omega, ?_, ?_⟩⟩
    · have S8 : mS [92, 91] [265] σ (sI (sI (sI σ 200 92 (gI σ 200 92 + nI 1)) 265 (gI σ 200 91).toNatClampNeg (nI v)) 200 91 (gI σ 200 91 + nI 1)) := ((mS.rf.f rfl).a rfl).f rfl
      exact PE.keep (S := .ok a) hE S8 rfl
    · exact M1.push (x := gI σ 200 91 + nI 1) e1 rfl (by rw [h1, nI_add]) hv hb
  · have q0 : gI σ 200 92 = nI 6 := q
    rw [h2, nI_eq (by omega) (by omega)] at q0
    refine mcall (c_fail0 G g l d σ tp hE.1 hE.2.1 _ _ 4 p rfl rfl (by omega) (by omega) hp) (fun r s1 h9 => ?_)
    obtain ⟨rfl, S1, F1⟩ := h9
    exact ⟨rfl, S1.mono rfl rfl, Or.inl ⟨q0, F1, h.keep S1 rfl⟩⟩
theorem c_qEndsPart (V W C : List Nat) (o : Nat) (h : MYq V W C o σ) (h5 : gI σ 200 5 = nI 0) (hc : cntM W ≤ o) :
    MC G g l (d+3) mX6_qEndsPart [tM] σ (fun r t => r = none ∧ mS [89, 91, 92] [264] σ t ∧ (∀ k, 1600 ≤ k → gI t 264 k = gI σ 264 k) ∧ MYq V (dropO W C o).1 (dropO W C o).2.1 (dropO W C o).2.2 t) := by
  refine MC1 tX6_qEndsPart [0] rfl okX6_qEndsPart rfl rfl rfl rfl (fun P hP => ?_)
  have key : ∀ (W' C' : List Nat) (o' : Nat) (τ : AS), dropO W C o = dropO W' C' o' → cntM W' ≤ o' → mS [89, 91, 92] [264] σ τ → (∀ k, 1600 ≤ k → gI τ 264 k = gI σ 264 k) → MYq V W' C' o' τ → P 0 [some tM] [] τ := by
    intro W'
    induction W' with
    | nil =>
      intro C' o' τ e1 hc S1 H1 M1
      have hb : gI τ 200 91 ≤ gI τ 200 93 := by rw [M1.1.2.1, M1.2]; exact Int32.le_refl _
      refine hP _ _ _ _ (And.intro (fun q => absurd (show gI τ 200 5 = nI 0 from by rw [S1.i 200 5 rfl rfl]; exact h5) q) (fun _ => And.intro (fun _ => ⟨rfl, S1, H1, ?_⟩) (fun q => absurd hb q)))
      rw [e1]
      exact M1
    | cons v W'' ih =>
      intro C' o' τ e1 hc S1 H1 M1
      have hl := M1.1.2.2.2.2.2.2.2
      have h2 : gI τ 200 91 = nI ((W'' ++ V).length + 1) := M1.1.2.1
      rw [List.length_append] at hl
      simp only [List.length_cons] at hl
      have hb : ¬ gI τ 200 91 ≤ gI τ 200 93 := by
        rw [h2, M1.2, List.length_append, nI_leI (by omega) (by omega)]
        omega
      have hk : gI τ 200 91 - nI 1 = nI (W'' ++ V).length := by rw [h2, nI_s1 _ _ (by omega)]; rfl
      have hL : (W'' ++ V).length < 1700 := by rw [List.length_append]; omega
      have ht := M1.top
      have hin : vp_in (gI τ 200 91 - nI 1) 1700 := by rw [hk]; exact vinN hL (by decide)
      have hg : gI τ 265 (gI τ 200 91 - nI 1).toNatClampNeg = nI v := by rw [hk, clN (by omega)]; exact ht.1
      refine hP _ _ _ _ (And.intro (fun q => absurd (show gI τ 200 5 = nI 0 from by rw [S1.i 200 5 rfl rfl]; exact h5) q) (fun _ => And.intro (fun q => absurd q hb) (fun _ => And.intro hin ?_)))
      have ho : v ≤ 100 := ht.2
      refine pk_lt v 60 (fun q => ⟨rfl, S1, H1, ?_⟩) (fun q => ?_) hg
      · rw [e1]
        unfold dropO
        rw [if_neg (by omega)]
        exact M1
      · rw [cntM_c, if_pos (by omega)] at hc
        have S3 : mS [92] [] τ (sI τ 200 92 (gI τ 200 92 - nI 1)) := mS.rf.f rfl
        have M3 : MFq (v :: (W'' ++ V)) C' (o' - 1) (sI τ 200 92 (gI τ 200 92 - nI 1)) := by
          obtain ⟨a1, a2, a3, a4, a5, a6, a7, a8⟩ := M1.1
          exact ⟨by rw [S3.i 200 89 rfl rfl]; exact a1, by rw [S3.i 200 91 rfl rfl]; exact a2, by rw [gI_sI, if_pos ⟨rfl, rfl⟩, a3, nI_s1 _ _ (by omega)], fun i u e => by rw [S3.ia 264 rfl rfl]; exact a4 i u e, fun i u e => by rw [S3.ia 265 rfl rfl]; exact a5 i u e, a6, by omega, a8⟩
        refine mcall (c_qDrops G g l d _ (W'' ++ V) C' (o' - 1) v M3) (fun r s2 h9 => ?_)
        obtain ⟨rfl, S2, H2, M2⟩ := h9
        refine ih (C' ++ [v]) (o' - 1) s2 ?_ (by omega) (S1.tr ((S3.mono rfl rfl).tr (S2.mono rfl rfl))) (fun k hk => by rw [H2 k hk, S3.ia 264 rfl rfl, H1 k hk]) ⟨M2, ?_⟩
        · rw [e1]
          show (if 60 ≤ v then dropO W'' (C' ++ [v]) (o' - 1) else (v :: W'', C', o')) = _
          rw [if_pos (by omega)]
        · rw [S2.i 200 93 rfl rfl, S3.i 200 93 rfl rfl]; exact M1.2
  exact key W C o σ rfl hc mS.rf (fun _ _ => rfl) h
end Y2_q

def YErq (tp : List Nat) (f : Flt) (t : AS) : Prop := PF tp f t ∧ ∃ n, n ≤ 1600 ∧ gI t 200 89 = nI n
def YOkq (tp V W C : List Nat) (o a : Nat) (t : AS) : Prop := PX tp (.ok a) t ∧ MYq V W C o t ∧ YI true V W C o a
theorem YOkq.le {tp V W C : List Nat} {o a : Nat} {t : AS} (h : YOkq tp V W C o a t) : a ≤ tp.length ∧ tp.length ≤ 1600 ∧ C.length + (W ++ V).length < a ∧ C.length + (W.length + V.length) < a := by
  obtain ⟨⟨a', h1⟩, h2, h3⟩ := h
  have := h1.1.len
  rw [List.length_append]
  exact ⟨h1.2.2.2.2.1, this, h3.2.2.2, h3.2.2.2⟩

