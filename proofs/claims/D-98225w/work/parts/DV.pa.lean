/-! whether a word stands there -/
section DV_
variable (G : CX) (g : GX) (l : Launch) (d : Nat) (σ : AS)
set_option maxHeartbeats 1000000 in
theorem x2_passes (tp : List Nat) (h : XRr tp σ) (a0 : Nat) (ha : gI σ 9 2 = nI a0) (hal : a0 ≤ tp.length) (hz : 268 ≤ zn σ) (hr1 : zn σ + 3 ≤ CMAX) (hr2 : zu σ + 2 * tp.length + 4 ≤ SMAX) (j : Nat) (w : List Nat) (hj : chkS j w = true) (hjo : oldOK (j+1) = true) (hw : small w) :
    XC G g l (d+7) mX2_passes [tR, rr (.inr (j+1))] σ (fun r t => ∃ e, (kw tp w (skp tp a0) = true → e = skp tp a0 + w.length ∧ gI t 9 3 = nI (skp tp a0)) ∧ (kw tp w (skp tp a0) = false → skp tp e = skp tp a0) ∧ r = some (iv (bI (kw tp w (skp tp a0)))) ∧ goP tp 3 (2 * tp.length + 4) e σ t) (fun t => (isAt isL tp (skp tp a0) = true ∧ prLD tp (skp tp a0) = true) ∧ thP σ 3 (2 * tp.length + 4) (1, skp tp a0) t) := by
  have hl := h.1.1
  have h25 := h.1.lt
  obtain ⟨a, hsk⟩ : ∃ a, skp tp a0 = a := ⟨_, rfl⟩
  have hale : a ≤ tp.length := by rw [← hsk]; exact endE_le isB hal
  have hska : skp tp a = a := by rw [← hsk]; exact skp_skp tp a0
  have hwl : wEn tp a ≤ tp.length := endE_le isL hale
  rw [hsk]
  refine XC1 tX2_passes [2, 5, 6, 9, 11, 12, 13] rfl okX2_passes rfl rfl rfl rfl (fun P hP => hP _ _ _ _ ?_)
  show P 2 [some tR, some (rr (.inr (j+1))), none] [iv (gI σ 9 2)] σ
  rw [ha]
  refine hP _ _ _ _ ?_
  refine mcall (x2_here G g l (d+4) σ tp h a0 ha hal) (fun r u0 h9 => ?_)
  rw [hsk] at h9
  obtain ⟨rfl, e0⟩ := h9
  have g0 : gI u0 9 2 = nI a := by rw [e0, gI_sI, if_pos ⟨rfl, rfl⟩]
  have X0_ : XRr tp u0 := by rw [e0]; exact h.at2 (by decide) _
  have F0 : fS (fun c => c = 9) σ u0 := by rw [e0]; exact fS.rf.i (Or.inl rfl)
  have z0 : zn u0 = zn σ := by rw [e0]; rfl
  have v0 : zu u0 = zu σ := by rw [e0]; rfl
  have k0 : ∀ k, k ≠ 2 → gI u0 9 k = gI σ 9 k := fun k hk => by rw [e0, gI_sI, if_neg (by omega)]
  show P 5 [some tR, some (rr (.inr (j+1))), some (iv (nI a0))] [iv (bA tp a)] u0
  refine hP _ _ _ _ ?_
  refine mcall (x_isL G g l (d+5) u0 (bA tp a)) (fun r s2 h9 => ?_)
  obtain ⟨rfl, e9⟩ := h9
  subst e9
  rw [bA_L h25]
  show P 6 [some tR, some (rr (.inr (j+1))), some (iv (nI a0))] [iv (bI (isAt isL tp a))] s2
  cases hL : isAt isL tp a with
  | false =>
    have hk : kw tp w a = false := by unfold kw; rw [hL]; rfl
    refine hP _ _ _ _ (And.intro (fun q => absurd rfl q) (fun _ => ⟨nar0, a, (fun z => by rw [hk] at z; cases z), (fun _ => hska), by rw [hk]; rfl, F0, by omega, by omega, g0, hale, fun k h1 _ => k0 k h1⟩))
  | true =>
  refine hP _ _ _ _ (And.intro (fun _ => ?_) (fun q => absurd q (by decide)))
  show P 9 [some tR, some (rr (.inr (j+1))), some (iv (nI a0))] [] s2
  have W := x2_word G g l d s2 tp X0_ a g0 hale (by omega) (by omega) (by omega)
  rw [hska] at W
  refine hP _ _ _ _ ?_
  refine xcall W (fun r s3 h9 => ?_) (fun s3 h9 => ?_)
  rotate_left
  · obtain ⟨hor, e9⟩ := h9
    have hpr : prLD tp a = true := by
      rcases hor with q | q
      · rw [hL] at q; cases q
      · exact q
    exact ⟨⟨hL, hpr⟩, _, F0.i (Or.inl rfl), by show zn s2 ≤ _; omega, by show zu s2 ≤ _; omega, e9⟩
  obtain ⟨⟨_, hpr⟩, rfl, hW⟩ := h9
  have hg := hW.go hale
  obtain ⟨F, z1, u1, g2, he, gk⟩ := hg
  obtain ⟨-, -, -, ⟨q2, q3, hS⟩, -, -, g3, -⟩ := hW
  have hsl : small (sub_ tp a (wEn tp a)) := sub_isL.small (by rw [sub_len hwl]; omega)
  have hk : kw tp w a = decide (sub_ tp a (wEn tp a) = w) := by unfold kw; rw [hL, hpr]; rfl
  have FF := F0.tr F (fun c _ q => q)
  show P 11 [some tR, some (rr (.inr (j+1))), some (iv (nI a0))] [rf (zn s2 + 1)] s3
  refine hP _ _ _ _ ?_
  show P 12 [some tR, some (rr (.inr (j+1))), some (iv (nI a0))] [rr (.inr (j+1)), rf (zn s2 + 1)] s3
  refine hP _ _ _ _ (sv1 rfl rfl hS.2.1 rfl rfl (mcall (j_equals G g l (d+4) s3 (.inl (zn s2 + 1)) (.inr (j+1)) _ w hS.sv (sv_old hj) hsl hw hjo) (fun r s4 h9 => ?_)))
  obtain ⟨rfl, e9⟩ := h9
  subst e9
  show P 13 [some tR, some (rr (.inr (j+1))), some (iv (nI a0))] [iv (bI (decide (sub_ tp a (wEn tp a) = w)))] s4
  rw [← hk]
  cases hkk : kw tp w a with
  | true =>
    refine hP _ _ _ _ (And.intro (fun q => absurd q (by decide)) (fun _ => ⟨nar1, wEn tp a, (fun _ => ⟨(kw_end hkk).1, g3⟩), (fun z => by rw [hkk] at z; cases z), by rw [hkk]; rfl, FF, by omega, by omega, g2, he, fun k h1 h2 => (gk k h1 h2).trans (k0 k h1)⟩))
  | false =>
    refine hP _ _ _ _ (And.intro (fun _ => ?_) (fun q => absurd rfl q))
    refine ⟨nar0, a0, (fun z => by rw [hkk] at z; cases z), (fun _ => hsk), by rw [hkk]; rfl, FF.i (Or.inl rfl), by show zn s4 ≤ _; omega, by show zu s4 ≤ _; omega, by rw [gI_sI, if_pos ⟨rfl, rfl⟩], hal, fun k h1 h2 => ?_⟩
    rw [gI_sI, if_neg (by omega)]
    exact (gk k h1 h2).trans (k0 k h1)
end DV_
