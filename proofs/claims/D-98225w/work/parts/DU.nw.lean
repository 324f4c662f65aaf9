/-! a word, then a number -/
theorem XRr.fs {tp : List Nat} {σ t : AS} (h : XRr tp σ) (F : fS (fun c => c = 9) σ t) (hz : 268 ≤ zn σ) (h1 : gI t 9 1 = gI σ 9 1) : XRr tp t :=
  ⟨⟨h.1.1, fun k x hx => ⟨((F.1 8 (by omega) (by omega) k).1).trans (h.1.2 k x hx).1, (h.1.2 k x hx).2⟩⟩, h1.trans h.2⟩
/-- the reader has gone on to e -/
def goP (tp : List Nat) (kn un e : Nat) (σ t : AS) : Prop := fS (fun c => c = 9) σ t ∧ zn t ≤ zn σ + kn ∧ zu t ≤ zu σ + un ∧ gI t 9 2 = nI e ∧ e ≤ tp.length ∧ ∀ k, k ≠ 2 → k ≠ 3 → gI t 9 k = gI σ 9 k
theorem wrdP.go {tp : List Nat} {a : Nat} {σ t : AS} (h : wrdP tp a σ t) (ha : a ≤ tp.length) : goP tp 3 (2 * tp.length + 4) (wEn tp a) σ t := by
  obtain ⟨F, z1, u1, -, -, g2, g3, gk⟩ := h
  have hwl : wEn tp a ≤ tp.length := endE_le isL ha
  exact ⟨F, by omega, by omega, g2, hwl, gk⟩
section DU_
variable (G : CX) (g : GX) (l : Launch) (d : Nat) (σ : AS)
set_option maxHeartbeats 1000000 in
theorem x2_number (tp : List Nat) (h : XRr tp σ) (a0 : Nat) (ha : gI σ 9 2 = nI a0) (hal : a0 ≤ tp.length) (hz : 268 ≤ zn σ) (hr1 : zn σ + 3 ≤ CMAX) (hr2 : zu σ + 2 * tp.length + 4 ≤ SMAX) (j : Nat) (w : List Nat) (hj : chkS j w = true) (hjo : oldOK (j+1) = true) (hw : small w) (x y : Int32) (lo hi : Nat) (hx : x = nI lo) (hy : y = nI hi) (hlo : lo ≤ 10000) (hhi : hi ≤ 10000) :
    XC G g l (d+8) mX2_number [tR, rr (.inr (j+1)), iv x, iv y] σ (fun r t => ∃ v e, rP (askW tp w (skp tp a0)) (numF tp lo hi) = .ok (v, skp tp e) ∧ skp tp a0 < e ∧ r = some (iv (nI v)) ∧ goP tp 3 (2 * tp.length + 4) e σ t) (fun t => ∃ f, rP (askW tp w (skp tp a0)) (numF tp lo hi) = .error f ∧ thP σ 3 (2 * tp.length + 4) f t) := by
  have hale : skp tp a0 ≤ tp.length := endE_le isB hal
  refine XC1 tX2_number [2, 3, 6] rfl okX2_number rfl rfl rfl rfl (fun P hP => hP _ _ _ _ ?_)
  show P 2 [some tR, some (rr (.inr (j+1))), some (iv x), some (iv y)] [rr (.inr (j+1)), tR] σ
  refine hP _ _ _ _ ?_
  refine xcall (x2_word2 G g l d σ tp h a0 ha hal hz hr1 hr2 j w hj hjo hw) (fun r s1 h9 => ?_) (fun s1 h9 => ?_)
  rotate_left
  · exact ⟨(1, skp tp a0), by unfold askW; rw [if_neg (by rw [h9.1]; decide)]; rfl, h9.2⟩
  obtain ⟨hk, rfl, hW⟩ := h9
  obtain ⟨F, z1, u1, g2, he, gk⟩ := hW.go hale
  have hge := (kw_end hk).1
  have eA : rP (askW tp w (skp tp a0)) (numF tp lo hi) = numF tp lo hi (skp tp (wEn tp (skp tp a0))) := by
    unfold askW
    rw [if_pos hk, hge]
    rfl
  have X1_ := h.fs F hz (gk 1 (by decide) (by decide))
  show P 3 [some tR, some (rr (.inr (j+1))), some (iv x), some (iv y)] [] s1
  refine hP _ _ _ _ ?_
  show P 6 [some tR, some (rr (.inr (j+1))), some (iv x), some (iv y)] [iv y, iv x, tR] s1
  refine hP _ _ _ _ ?_
  refine xcall (x2_number2 G g l (d+4) s1 tp X1_ _ g2 he x y lo hi hx hy hlo hhi) (fun r s2 h9 => ?_) (fun s2 h9 => ?_)
  · obtain ⟨v, e, hn, hel, hlt, rfl, e9⟩ := h9
    have hskp : wEn tp (skp tp a0) ≤ skp tp (wEn tp (skp tp a0)) := endE_ge isB tp _
    have hg2 : skp tp a0 ≤ wEn tp (skp tp a0) := endE_ge isL tp _
    have F2 : fS (fun c => c = 9) s1 s2 := by
      rw [e9]
      unfold nuS
      exact ((fS.rf (Q := fun c => c = 9)).i (Or.inl rfl)).i (Or.inl rfl)
    refine ⟨v, e, eA.trans hn, by omega, rfl, F.tr F2 (fun c _ q => q), by rw [e9]; exact z1, by rw [e9]; exact u1, ?_, hel, fun k h1 h2 => ?_⟩
    · rw [e9]; unfold nuS; rw [gI_sI, if_pos ⟨rfl, rfl⟩]
    · rw [e9]; unfold nuS; rw [gI_sI, if_neg (by omega), gI_sI, if_neg (by omega)]; exact gk k h1 h2
  · obtain ⟨k, p, hn, s, hS, e9⟩ := h9
    obtain ⟨F3, z3, u3⟩ := hS.fs9
    exact ⟨(k, p), eA.trans hn, s, F.tr F3 (fun c _ q => q), by omega, by omega, e9⟩
end DU_
