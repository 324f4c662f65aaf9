/-! what is thrown, with room; words that are asked for -/
def thP (σ : AS) (kn un : Nat) (f : Flt) (t : AS) : Prop := ∃ s, fS (fun c => c = 9) σ s ∧ zn s ≤ zn σ + kn ∧ zu s ≤ zu σ + un ∧ t = wS s f.1 f.2
theorem xS.fs9 {σ s : AS} (h : xS [] [9] σ s) : fS (fun c => c = 9) σ s ∧ zn s = zn σ ∧ zu s = zu σ :=
  ⟨⟨fun c _ hc k => by
    have q := h.1 c k (by simpa using hc) (fun _ z => by cases z)
    exact ⟨q.1, q.2, gR_of h.2 c k⟩, fun c _ => kd_of h.2 c, Nat.le_of_eq (zn_of h.2).symm, Nat.le_of_eq (zu_of h.2).symm⟩, zn_of h.2, zu_of h.2⟩
section DS_
variable (G : CX) (g : GX) (l : Launch) (d : Nat) (σ : AS)
set_option maxHeartbeats 1000000 in
theorem x2_word2 (tp : List Nat) (h : XRr tp σ) (a0 : Nat) (ha : gI σ 9 2 = nI a0) (hal : a0 ≤ tp.length) (hz : 268 ≤ zn σ) (hr1 : zn σ + 3 ≤ CMAX) (hr2 : zu σ + 2 * tp.length + 4 ≤ SMAX) (j : Nat) (w : List Nat) (hj : chkS j w = true) (hjo : oldOK (j+1) = true) (hw : small w) :
    XC G g l (d+7) mX2_word_2 [tR, rr (.inr (j+1))] σ (fun r t => kw tp w (skp tp a0) = true ∧ r = none ∧ wrdP tp (skp tp a0) σ t) (fun t => kw tp w (skp tp a0) = false ∧ thP σ 3 (2 * tp.length + 4) (1, skp tp a0) t) := by
  have hl := h.1.1
  obtain ⟨a, hsk⟩ : ∃ a, skp tp a0 = a := ⟨_, rfl⟩
  have hale : a ≤ tp.length := by rw [← hsk]; exact endE_le isB hal
  have hwl : wEn tp a ≤ tp.length := endE_le isL hale
  have W := x2_word G g l d σ tp h a0 ha hal hz hr1 hr2
  rw [hsk] at W ⊢
  refine XC1 tX2_word_2 [2, 3, 4, 9, 10] rfl okX2_word_2 rfl rfl rfl rfl (fun P hP => hP _ _ _ _ ?_)
  refine xcall W (fun r s1 h9 => ?_) (fun s1 h9 => ?_)
  · obtain ⟨⟨hL, hpr⟩, rfl, hW⟩ := h9
    have hW0 := hW
    obtain ⟨F, z1, u1, ⟨q2, q3, hS⟩, R, g2, g3, gk⟩ := hW
    have hsl : small (sub_ tp a (wEn tp a)) := sub_isL.small (by rw [sub_len hwl]; omega)
    have hk : kw tp w a = decide (sub_ tp a (wEn tp a) = w) := by unfold kw; rw [hL, hpr]; rfl
    show P 2 [some tR, some (rr (.inr (j+1)))] [rf (zn σ + 1)] s1
    refine hP _ _ _ _ ?_
    show P 3 [some tR, some (rr (.inr (j+1)))] [rr (.inr (j+1)), rf (zn σ + 1)] s1
    refine hP _ _ _ _ (sv1 rfl rfl hS.2.1 rfl rfl (mcall (j_equals G g l (d+4) s1 (.inl (zn σ + 1)) (.inr (j+1)) _ w hS.sv (sv_old hj) hsl hw hjo) (fun r s2 h9 => ?_)))
    obtain ⟨rfl, e9⟩ := h9
    subst e9
    show P 4 [some tR, some (rr (.inr (j+1)))] [iv (bI (decide (sub_ tp a (wEn tp a) = w)))] s2
    rw [← hk]
    cases hkk : kw tp w a with
    | true => exact hP _ _ _ _ (And.intro (fun _ => ⟨hkk, rfl, hW0⟩) (fun q => absurd q (by decide)))
    | false =>
      refine hP _ _ _ _ (And.intro (fun q => absurd rfl q) (fun _ => ?_))
      show P 9 [some tR, some (rr (.inr (j+1)))] [iv (gI s2 9 3), iv (nI 1), tR] s2
      refine hP _ _ _ _ ?_
      refine mcall (x2_wrong G g l (d+5) s2 _ _ 1 a rfl g3) (fun r s3 h9 => ?_)
      obtain ⟨rfl, e9⟩ := h9
      show P 10 [some tR, some (rr (.inr (j+1)))] [rf 10] s3
      exact hP _ _ _ _ ⟨hkk, s2, F, by omega, by omega, e9⟩
  · obtain ⟨hor, e9⟩ := h9
    refine ⟨?_, sI σ 9 2 (nI a), fS.rf.i (Or.inl rfl), Nat.le_add_right _ _, Nat.le_add_right _ _, e9⟩
    unfold kw
    rcases hor with q | q
    · rw [q]; rfl
    · rw [q, Bool.not_true, Bool.false_and, Bool.and_false]
end DS_
