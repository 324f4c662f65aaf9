/-! names of the reader -/
theorem fIx_none (w : List Nat) : ∀ (ws : List (List Nat)) (k : Nat), (fIx w ws k).isSome = ws.any (fun x => decide (w = x))
  | [], _ => rfl
  | x :: r, k => by
    show (if x = w then some k else fIx w r (k+1)).isSome = (decide (w = x) || r.any (fun x => decide (w = x)))
    by_cases e : x = w
    · rw [if_pos e, decide_eq_true e.symm]; rfl
    · rw [if_neg e, decide_eq_false (fun z => e z.symm), Bool.false_or]; exact fIx_none w r (k+1)
theorem tbl_own : tblOK 3 ownWs = true := by decide
section DT_
variable (G : CX) (g : GX) (l : Launch) (d : Nat) (σ : AS)
theorem fIx_lt (w : List Nat) : ∀ (ws : List (List Nat)) (k i : Nat), fIx w ws k = some i → i < k + ws.length
  | [], _, _, h => by cases h
  | x :: r, k, i, h => by
    have h : (if x = w then some k else fIx w r (k+1)) = some i := h
    split at h
    · cases h; simp
    · have := fIx_lt w r (k+1) i h
      simp; omega
set_option maxHeartbeats 1000000 in
theorem x2_name (tp : List Nat) (h : XRr tp σ) (a0 : Nat) (ha : gI σ 9 2 = nI a0) (hal : a0 ≤ tp.length) (hz : 268 ≤ zn σ) (hr1 : zn σ + 3 ≤ CMAX) (hr2 : zu σ + 2 * tp.length + 4 ≤ SMAX) :
    XC G g l (d+7) mX2_name [tR] σ (fun r t => namF tp (skp tp a0) = .ok (namV (sub_ tp (skp tp a0) (wEn tp (skp tp a0))), skp tp (wEn tp (skp tp a0))) ∧ (skp tp a0 < wEn tp (skp tp a0) ∧ wEn tp (skp tp a0) - skp tp a0 ≤ 6) ∧ r = some (rf (zn σ + 1)) ∧ wrdP tp (skp tp a0) σ t) (fun t => ∃ f, namF tp (skp tp a0) = .error f ∧ thP σ 3 (2 * tp.length + 4) f t) := by
  have hl := h.1.1
  obtain ⟨a, hsk⟩ : ∃ a, skp tp a0 = a := ⟨_, rfl⟩
  have hale : a ≤ tp.length := by rw [← hsk]; exact endE_le isB hal
  have hwl : wEn tp a ≤ tp.length := endE_le isL hale
  have W := x2_word G g l d σ tp h a0 ha hal hz hr1 hr2
  rw [hsk] at W ⊢
  refine XC1 tX2_name [2, 5, 12, 13, 15, 16, 24, 25, 26] rfl okX2_name rfl rfl rfl rfl (fun P hP => hP _ _ _ _ ?_)
  refine xcall W (fun r s1 h9 => ?_) (fun s1 h9 => ?_)
  · obtain ⟨⟨hL, hpr⟩, rfl, hW⟩ := h9
    have hW0 := hW
    obtain ⟨F, z1, u1, ⟨q2, q3, hS⟩, R, g2, g3, gk⟩ := hW
    have hsl : small (sub_ tp a (wEn tp a)) := sub_isL.small (by rw [sub_len hwl]; omega)
    have hw1 : a + 1 ≤ wEn tp a := by
      have : wEn tp a = wEn tp (a+1) := endE_step hL
      rw [this]
      exact endE_ge isL tp (a+1)
    have ho : ownH tp a = (fIx (sub_ tp a (wEn tp a)) ownWs 0).isSome := by
      rw [fIx_none]
      unfold ownH
      congr 1
      funext w
      unfold kw
      rw [hL, hpr]
      rfl
    show P 2 [some tR, none] [rf (zn σ + 1)] s1
    refine hP _ _ _ _ ?_
    show P 5 [some tR, some (rf (zn σ + 1))] [rr (.inr 4), rf (zn σ + 1)] s1
    refine hP _ _ _ _ ?_
    refine mcall (x_find G g l (d+3) s1 (zn σ + 1) 3 ownWs tbl_own _ hsl hS.sv) (fun r s2 h9 => ?_)
    obtain ⟨rfl, e9⟩ := h9
    subst e9
    cases hf : fIx (sub_ tp a (wEn tp a)) ownWs 0 with
    | some k =>
      rw [hf] at ho
      have hk := fIx_lt _ _ _ _ hf
      have hk : k < 17 := by simpa [ownWs] using hk
      refine And.intro (fun q => absurd (show nI k = - nI 1 from q) (nI_neg1 (by omega))) (fun _ => ?_)
      show P 12 [some tR, some (rf (zn σ + 1))] [iv (gI s2 9 3), iv (nI 1), tR] s2
      refine hP _ _ _ _ ?_
      refine mcall (x2_wrong G g l (d+5) s2 _ _ 1 a rfl g3) (fun r s3 h9 => ?_)
      obtain ⟨rfl, e9⟩ := h9
      show P 13 [some tR, some (rf (zn σ + 1))] [rf 10] s3
      exact hP _ _ _ _ ⟨(1, a), by unfold namF; rw [if_pos (Or.inr (Or.inr (show ownH tp a = true from ho)))], s2, F, by omega, by omega, e9⟩
    | none =>
      rw [hf] at ho
      have nF : namF tp a = if 6 < wEn tp a - a then .error (1, a + 6) else .ok (namV (sub_ tp a (wEn tp a)), skp tp (wEn tp a)) := by
        unfold namF
        rw [if_neg (fun z => by rcases z with z | z | z; rw [hL] at z; cases z; rw [hpr] at z; cases z; rw [ho] at z; cases z)]
      refine And.intro (fun _ => ?_) (fun q => absurd rfl q)
      show P 15 [some tR, some (rf (zn σ + 1))] [rf (zn σ + 1)] s2
      refine hP _ _ _ _ (sv0 rfl rfl hS.2.1 rfl rfl (mcall (j_length6 G g l (d+4) s2 hS) (fun r s3 h9 => ?_)))
      obtain ⟨rfl, e9⟩ := h9
      subst e9
      rw [sub_len hwl]
      show P 16 [some tR, some (rf (zn σ + 1))] [iv (nI (wEn tp a - a))] s3
      refine hP _ _ _ _ (And.intro (fun q => ?_) (fun q => ?_))
      · have q := (nI_leI (by omega) (by omega)).mp q
        rw [if_neg (by omega)] at nF
        show P 26 [some tR, some (rf (zn σ + 1))] [] s3
        exact hP _ _ _ _ ⟨nF, ⟨by omega, q⟩, rfl, hW0⟩
      · have q : ¬ nI (wEn tp a - a) ≤ nI 6 := q
        rw [nI_leI (by omega) (by omega)] at q
        rw [if_pos (by omega)] at nF
        show P 24 [some tR, some (rf (zn σ + 1))] [iv (gI s3 9 3 + nI 6), iv (nI 1), tR] s3
        refine hP _ _ _ _ ?_
        refine mcall (x2_wrong G g l (d+5) s3 _ _ 1 (a + 6) rfl (by rw [g3, nI_add])) (fun r s4 h9 => ?_)
        obtain ⟨rfl, e9⟩ := h9
        show P 25 [some tR, some (rf (zn σ + 1))] [rf 10] s4
        exact hP _ _ _ _ ⟨(1, a + 6), nF, s3, F, by omega, by omega, e9⟩
  · obtain ⟨hor, e9⟩ := h9
    refine ⟨(1, a), ?_, sI σ 9 2 (nI a), fS.rf.i (Or.inl rfl), Nat.le_add_right _ _, Nat.le_add_right _ _, e9⟩
    unfold namF
    rw [if_pos (by rcases hor with q | q; exact Or.inl q; exact Or.inr (Or.inl q))]
end DT_
