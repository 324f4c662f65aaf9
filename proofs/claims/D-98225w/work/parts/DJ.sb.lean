/-! string builders being built -/
theorem SBDe.withP {P P' : Nat → Prop} {σ : AS} {a b cap : Nat} {gs : List Nat} (h : SBDe P σ a b cap gs) (h1 : P' a) (h2 : P' b) : SBDe P' σ a b cap gs := ⟨⟨h1, h2⟩, h.2⟩
theorem nar20 : NarOK 2 (nI 0) := ⟨rfl, rfl⟩
theorem shr0 (x : Int32) : x >>> (nI 0 &&& 31) = x := by rw [show (nI 0 &&& 31 : Int32) = 0 from rfl]; exact Int32.shiftRight_zero
theorem shl0 (x : Int32) : x <<< (nI 0 &&& 31) = x := by rw [show (nI 0 &&& 31 : Int32) = 0 from rfl]; exact Int32.shiftLeft_zero
theorem gI_cp2 {s : AS} {b a sp dp n c j : Nat} : gI (cpI s b a sp dp n) c j = if c = a then (if dp ≤ j ∧ j < dp + n then gI s b (sp + (j - dp)) else gI s a j) else gI s c j := rfl
section DJ_
variable (G : CX) (g : GX) (l : Launch) (d : Nat) (σ : AS)
theorem b_init14 (a : Nat) (ka : kd true σ a = (0, 21)) (ha : 268 ≤ a) (hlt : a < zn σ) (h2 : gI σ a 3 = nI 0) (hr1 : zn σ + 1 ≤ CMAX) (hr2 : zu σ + 16 ≤ SMAX) :
    MC G g l (d+1) mJ14_init [rf a, iv (nI 16)] σ (fun r t => r = none ∧ fS (fun c => c = a) σ t ∧ zn t = zn σ + 1 ∧ zu t = zu σ + 16 ∧ SBDe (fun _ => True) t a (zn σ) 16 []) := by
  have hz : 268 ≤ zn σ := by omega
  refine MC1 tJ14_init [2, 7, 8, 10] rfl okJ14_init rfl rfl rfl rfl (fun P hP => hP _ _ _ _ ?_)
  show P 2 [some (rf a), some (iv (nI 16))] [] σ
  refine hP _ _ _ _ ?_
  refine And.intro (fun q => absurd q (by decide)) (fun _ => ?_)
  refine And.intro ⟨show ¬ nI 16 < nI 0 by decide, show (nI 16).toNatClampNeg ≤ 100000 by decide⟩ ?_
  refine And.intro (show zn σ + 1 ≤ CMAX ∧ zu σ + (nI 16).toNatClampNeg ≤ SMAX from ⟨hr1, hr2⟩) ?_
  show P 7 [some (rf a), some (iv (nI 16))] [rf (zn σ), rf a] (nw σ (2, 16) 16)
  generalize hs : nw σ (2, 16) 16 = s
  have F1 : fS (fun c => c = a) σ s := by rw [← hs]; exact fS.rf.nw1 hz
  have k1 : kd true s a = (0, 21) := (F1.2.1 a hlt).trans ka
  have k2 : kd true s (zn σ) = (2, 16) := by rw [← hs]; exact kd_nw hz
  have g3 : gI s a 3 = nI 0 := by rw [← hs, gI_nw, if_neg (by omega)]; exact h2
  have gb : ∀ j, gI s (zn σ) j = nI 0 := fun j => by rw [← hs, gI_nw, if_pos rfl]; rfl
  refine hP _ _ _ _ ?_
  refine grd (b := isOb (kd true s a) _ && (!true || (fixR a 0).isNone)) (by rw [k1, fx_hi ha]; rfl) ?_
  show P 8 [some (rf a), some (iv (nI 16))] [] (sR s a 0 (some (.inl (zn σ))))
  refine hP _ _ _ _ ?_
  show P 10 [some (rf a), some (iv (nI 16))] [iv (nI 0), rf a] (sR s a 0 (some (.inl (zn σ))))
  refine hP _ _ _ _ ?_
  refine grd (b := isOb (kd true (sR s a 0 (some (.inl (zn σ)))) a) _ && Nat.blt 2 5) (by rw [show kd true (sR s a 0 (some (.inl (zn σ)))) a = (0, 21) from k1]; rfl) ?_
  refine And.intro nar20 ?_
  refine ⟨rfl, (F1.r (Or.inl rfl)).i (Or.inl rfl), by show zn s = _; rw [← hs]; rfl, by show zu s = _; rw [← hs]; rfl, ⟨trivial, trivial⟩, k1, k2, ?_, ?_, ?_, ⟨by simp, by simp, by simp⟩, fun i x hx => by simp at hx, fun j => ?_⟩
  · rw [gI_sI, if_pos ⟨rfl, rfl⟩]
  · rw [gI_sI, if_neg (by omega), gI_sR]; exact g3
  · rw [gR_sI, gR_set ha, if_pos ⟨rfl, rfl⟩]
  · rw [gI_sI, if_neg (by omega), gI_sR, gb]; exact nar20
theorem b_init (a : Nat) (ka : kd true σ a = (0, 21)) (ha : 268 ≤ a) (hlt : a < zn σ) (h2 : gI σ a 3 = nI 0) (hr1 : zn σ + 1 ≤ CMAX) (hr2 : zu σ + 16 ≤ SMAX) :
    MC G g l (d+2) mJ15_init [rf a] σ (fun r t => r = none ∧ fS (fun c => c = a) σ t ∧ zn t = zn σ + 1 ∧ zu t = zu σ + 16 ∧ SBDe (fun _ => True) t a (zn σ) 16 []) := by
  refine MC1 tJ15_init [2] rfl okJ15_init rfl rfl rfl rfl (fun P hP => hP _ _ _ _ ?_)
  show P 2 [some (rf a)] [iv (nI 16), rf a] σ
  refine hP _ _ _ _ ?_
  refine mcall (b_init14 G g l d σ a ka ha hlt h2 hr1 hr2) (fun r s1 h9 => ?_)
  obtain ⟨rfl, h9⟩ := h9
  exact ⟨rfl, h9⟩
theorem j_copy3 (e cap n : Nat) (ke : kd true σ e = (2, cap)) (hlt : e < zn σ) (hz : 268 ≤ zn σ) (hE : ∀ j, NarOK 2 (gI σ e j)) (hn : cap < n) (hn2 : n ≤ 10000) (hr1 : zn σ + 1 ≤ CMAX) (hr2 : zu σ + n ≤ SMAX) (x : Int32) (hx : x = nI n) : MC G g l (d+2) mJ13_copyOf_3 [rf e, iv x] σ (fun r t => r = some (rf (zn σ)) ∧ t = cpI (nw σ (2, n) n) e (zn σ) 0 0 cap) := by
  subst hx
  have cn : (nI n).toNatClampNeg = n := clN (by omega)
  refine MC1 tJ13_copyOf_3 [2, 3, 10, 11, 16, 19] rfl okJ13_copyOf_3 rfl rfl rfl rfl (fun P hP => hP _ _ _ _ ?_)
  show P 2 [some (rf e), some (iv (nI n)), none] [rf e, iv (nI n)] σ
  refine hP _ _ _ _ ?_
  refine grd (b := Nat.ble 1 (kd true σ e).1 && Nat.ble (kd true σ e).1 10) (by rw [ke]; rfl) ?_
  show P 3 [some (rf e), some (iv (nI n)), none] [iv (nI (kd true σ e).2), iv (nI n)] σ
  rw [ke]
  refine hP _ _ _ _ (And.intro (fun _ => ?_) (fun q => absurd (show nI n = nI cap from q) (by rw [nI_eq (by omega) (by omega)]; omega)))
  refine And.intro ⟨show ¬ nI n < nI 0 by rw [nI_ltI (by omega) (by omega)]; omega, show (nI n).toNatClampNeg ≤ 100000 by rw [cn]; omega⟩ ?_
  refine And.intro (show zn σ + 1 ≤ CMAX ∧ zu σ + (nI n).toNatClampNeg ≤ SMAX by rw [cn]; exact ⟨hr1, hr2⟩) ?_
  show P 10 [some (rf e), some (iv (nI n)), none] [rf (zn σ)] (nw σ (2, (nI n).toNatClampNeg) (nI n).toNatClampNeg)
  rw [cn]
  refine hP _ _ _ _ ?_
  show P 11 [some (rf e), some (iv (nI n)), some (rf (zn σ))] [] (nw σ (2, n) n)
  generalize hs : nw σ (2, n) n = s
  have k1 : kd true s e = (2, cap) := by rw [← hs, kd_nwo hlt]; exact ke
  have k2 : kd true s (zn σ) = (2, n) := by rw [← hs]; exact kd_nw hz
  have hel : ∀ j, NarOK 2 (gI s e j) := fun j => by rw [← hs, gI_nw, if_neg (by omega)]; exact hE j
  refine hP _ _ _ _ ?_
  show P 16 [some (rf e), some (iv (nI n)), some (rf (zn σ))] [rf e, iv (nI 0), rf (zn σ), iv (nI 0), rf e] s
  refine hP _ _ _ _ ?_
  refine grd (b := Nat.ble 1 (kd true s e).1 && Nat.ble (kd true s e).1 10) (by rw [k1]; rfl) ?_
  refine mcall (j_minI G g l d s _ _ cap n (show nI (kd true s e).2 = nI cap by rw [k1]) rfl (by omega) (by omega)) (fun r s1 h9 => ?_)
  obtain ⟨rfl, e9⟩ := h9
  subst e9
  show P 19 [some (rf e), some (iv (nI n)), some (rf (zn σ))] [iv (nI (min cap n)), iv (nI 0), rf (zn σ), iv (nI 0), rf e] s1
  rw [Nat.min_eq_left (by omega)]
  have cc : (nI cap).toNatClampNeg = cap := clN (by omega)
  have c0 : (nI 0).toNatClampNeg = 0 := rfl
  refine hP _ _ _ _ ?_
  refine And.intro ⟨⟨show ¬ nI 0 < nI 0 by decide, show ¬ nI 0 < nI 0 by decide, show ¬ nI cap < nI 0 by rw [nI_ltI (by omega) (by omega)]; omega⟩, show (nI 0).toNatClampNeg + (nI cap).toNatClampNeg ≤ (kd true s1 e).2 by rw [k1, cc, c0]; show 0 + cap ≤ cap; omega, show (nI 0).toNatClampNeg + (nI cap).toNatClampNeg ≤ (kd true s1 (zn σ)).2 by rw [k2, cc, c0]; show 0 + cap ≤ n; omega⟩ (Or.inl ⟨by rw [k2], by rw [k1], hel, ?_⟩)
  refine ⟨rfl, ?_⟩
  show cpI s1 e (zn σ) (nI 0).toNatClampNeg (nI 0).toNatClampNeg (nI cap).toNatClampNeg = _
  rw [cc, c0, ← hs]
theorem b_newCap {Q : Nat → Prop} {a b : Nat} {gs : List Nat} (h : SBDe Q σ a b gs.length gs) (x : Int32) (hx : x = nI (gs.length + 1)) (h1 : 1 ≤ gs.length) : MC G g l (d+3) mJ14_newCapacity [rf a, iv x] σ (fun r t => r = some (iv (nI (2 * gs.length + 2))) ∧ t = σ) := by
  subst hx
  obtain ⟨-, k1, k2, h3, h4, h5, h6, h7, h8⟩ := h
  refine MC1 tJ14_newCapacity [2, 4, 7, 9, 13, 19, 22, 23, 34] rfl okJ14_newCapacity rfl rfl rfl rfl (fun P hP => hP _ _ _ _ ?_)
  refine grd (b := isOb (kd true σ a) _) (by rw [k1]; rfl) ?_
  show P 2 [some (rf a), some (iv (nI (gs.length + 1))), none, none, none, none] [rw_ (gR true σ a 0)] σ
  rw [h5]
  refine hP _ _ _ _ ?_
  refine grd (b := Nat.ble 1 (kd true σ b).1 && Nat.ble (kd true σ b).1 10) (by rw [k2]; rfl) ?_
  show P 4 [some (rf a), some (iv (nI (gs.length + 1))), some (iv (nI (kd true σ b).2)), none, none, none] [] σ
  rw [k2]
  refine hP _ _ _ _ ?_
  refine grd (b := isOb (kd true σ a) _) (by rw [k1]; rfl) ?_
  show P 7 [some (rf a), some (iv (nI (gs.length + 1))), some (iv (nI gs.length)), none, none, none] [iv (gI σ a 1), iv (nI (gs.length + 1))] σ
  rw [h3]
  refine hP _ _ _ _ ?_
  show P 9 [some (rf a), some (iv (nI (gs.length + 1))), some (iv (nI gs.length)), some (iv (nI (gs.length + 1) <<< (nI 0 &&& 31))), none, none] [] σ
  rw [shl0]
  refine hP _ _ _ _ ?_
  show P 13 [some (rf a), some (iv (nI (gs.length + 1))), some (iv (nI gs.length)), some (iv (nI (gs.length + 1))), some (iv (nI (gs.length + 1) - nI gs.length)), none] [] σ
  rw [nI_s1 _ _ (by omega), show gs.length + 1 - gs.length = 1 by omega]
  refine hP _ _ _ _ ?_
  refine grd (b := isOb (kd true σ a) _) (by rw [k1]; rfl) ?_
  show P 19 [some (rf a), some (iv (nI (gs.length + 1))), some (iv (nI gs.length)), some (iv (nI (gs.length + 1))), some (iv (nI 1)), none] [iv (gI σ a 1), iv (nI 2), iv (nI gs.length), iv (nI 1), iv (nI gs.length)] σ
  rw [h3]
  refine hP _ _ _ _ ?_
  refine mcall (j_newLen G g l d σ _ _ _ gs.length 1 (gs.length + 2) rfl rfl (show nI gs.length + nI 2 <<< (nI 0 &&& 31) = _ by rw [shl0, nI_add]) h1 (by omega) (by omega) (by omega)) (fun r s1 h9 => ?_)
  obtain ⟨rfl, e9⟩ := h9
  subst e9
  show P 22 [some (rf a), some (iv (nI (gs.length + 1))), some (iv (nI gs.length)), some (iv (nI (gs.length + 1))), some (iv (nI 1)), none] [iv (nI (gs.length + max 1 (gs.length + 2)))] s1
  rw [show gs.length + max 1 (gs.length + 2) = 2 * gs.length + 2 by omega]
  refine hP _ _ _ _ ?_
  show P 23 [some (rf a), some (iv (nI (gs.length + 1))), some (iv (nI gs.length)), some (iv (nI (gs.length + 1))), some (iv (nI 1)), some (iv (nI (2 * gs.length + 2)))] [] s1
  refine hP _ _ _ _ (And.intro (fun _ => ?_) (fun q => absurd (show nI (2 * gs.length + 2) = nI 2147483647 from q) (by rw [nI_eq (by omega) (by omega)]; omega)))
  refine grd (b := isOb (kd true s1 a) _) (by rw [k1]; rfl) ?_
  show P 34 [some (rf a), some (iv (nI (gs.length + 1))), some (iv (nI gs.length)), some (iv (nI (gs.length + 1))), some (iv (nI 1)), some (iv (nI (2 * gs.length + 2)))] [iv (gI s1 a 1), iv (nI (2 * gs.length + 2))] s1
  rw [h3]
  refine hP _ _ _ _ ⟨?_, rfl⟩
  show some (iv (nI (2 * gs.length + 2) >>> (nI 0 &&& 31))) = _
  rw [shr0]
def sbG (σ : AS) (a b : Nat) (gs : List Nat) (t : AS) : Prop := fS (fun c => c = a) σ t ∧ zn t ≤ zn σ + 1 ∧ zu t ≤ zu σ + 2 * gs.length + 2 ∧ ∃ b' cap', (b' = b ∨ b' = zn σ) ∧ b' < zn t ∧ gs.length + 1 ≤ cap' ∧ SBDe (fun _ => True) t a b' cap' gs
set_option maxHeartbeats 1000000 in
theorem b_ensure {Q : Nat → Prop} {a b cap : Nat} {gs : List Nat} (h : SBDe Q σ a b cap gs) (ha : 268 ≤ a) (hal : a < zn σ) (hbl : b < zn σ) (h40 : gs.length < 4000) (h1 : 1 ≤ cap) (hr1 : zn σ + 1 ≤ CMAX) (hr2 : zu σ + 2 * gs.length + 2 ≤ SMAX) (x : Int32) (hx : x = nI (gs.length + 1)) :
    MC G g l (d+4) mJ14_ensureCapacityInternal [rf a, iv x] σ (fun r t => r = none ∧ sbG σ a b gs t) := by
  subst hx
  have h0 := h
  obtain ⟨-, k1, k2, h3, h4, h5, h6, h7, h8⟩ := h
  have hz : 268 ≤ zn σ := by omega
  refine MC1 tJ14_ensureCapacityInternal [2, 5, 7, 14, 16, 19, 20, 21] rfl okJ14_ensureCapacityInternal rfl rfl rfl rfl (fun P hP => hP _ _ _ _ ?_)
  refine grd (b := isOb (kd true σ a) _) (by rw [k1]; rfl) ?_
  show P 2 [some (rf a), some (iv (nI (gs.length + 1))), none] [rw_ (gR true σ a 0)] σ
  rw [h5]
  refine hP _ _ _ _ ?_
  refine grd (b := Nat.ble 1 (kd true σ b).1 && Nat.ble (kd true σ b).1 10) (by rw [k2]; rfl) ?_
  refine grd (b := isOb (kd true σ a) _) (by rw [k1]; rfl) ?_
  show P 5 [some (rf a), some (iv (nI (gs.length + 1))), none] [iv (gI σ a 1), iv (nI (kd true σ b).2)] σ
  rw [h3, k2]
  refine hP _ _ _ _ ?_
  show P 7 [some (rf a), some (iv (nI (gs.length + 1))), some (iv (nI cap >>> (nI 0 &&& 31)))] [] σ
  rw [shr0]
  by_cases hc : gs.length + 1 ≤ cap
  · refine hP _ _ _ _ (And.intro (fun _ => ⟨rfl, fS.rf, by omega, by omega, b, cap, Or.inl rfl, hbl, hc, h0.withP trivial trivial⟩) (fun q => absurd (show nI (gs.length + 1) - nI cap ≤ nI 0 from ?_) q))
    have hsub := pk_sub_toInt (a := gs.length + 1) (b := cap) (by omega) (by omega)
    rw [Int32.le_iff_toInt_le, show (nI (gs.length + 1) - nI cap).toInt = ((gs.length + 1 : Nat) : Int) - (cap : Int) from hsub]
    show _ ≤ (0 : Int)
    omega
  · have hcap : cap = gs.length := by omega
    subst hcap
    refine hP _ _ _ _ (And.intro (fun q => absurd (show nI (gs.length + 1) - nI gs.length ≤ nI 0 from q) (by rw [nI_s1 _ _ (by omega), nI_leI (by omega) (by omega)]; omega)) (fun _ => ?_))
    refine grd (b := isOb (kd true σ a) _) (by rw [k1]; rfl) ?_
    show P 14 [some (rf a), some (iv (nI (gs.length + 1))), some (iv (nI gs.length))] [rw_ (gR true σ a 0), rf a] σ
    rw [h5]
    refine hP _ _ _ _ ?_
    show P 16 [some (rf a), some (iv (nI (gs.length + 1))), some (iv (nI gs.length))] [iv (nI (gs.length + 1)), rf a, rf b, rf a] σ
    refine hP _ _ _ _ (sv1 rfl rfl k1 rfl rfl (mcall (b_newCap G g l d σ h0 _ rfl h1) (fun r s1 h9 => ?_)))
    obtain ⟨rfl, e9⟩ := h9
    subst e9
    refine grd (b := isOb (kd true s1 a) _) (by rw [k1]; rfl) ?_
    show P 19 [some (rf a), some (iv (nI (gs.length + 1))), some (iv (nI gs.length))] [iv (gI s1 a 1), iv (nI (2 * gs.length + 2)), rf b, rf a] s1
    rw [h3]
    refine hP _ _ _ _ ?_
    show P 20 [some (rf a), some (iv (nI (gs.length + 1))), some (iv (nI gs.length))] [iv (nI (2 * gs.length + 2) <<< (nI 0 &&& 31)), rf b, rf a] s1
    rw [shl0]
    refine hP _ _ _ _ ?_
    refine mcall (j_copy3 G g l (d+1) s1 b gs.length (2 * gs.length + 2) k2 hbl hz h8 (by omega) (by omega) hr1 (by omega) _ rfl) (fun r s2 h9 => ?_)
    obtain ⟨rfl, e9⟩ := h9
    have F2 : fS (fun c => c = a) s1 s2 := by rw [e9]; exact (fS.rf.nw1 hz).cI (Or.inr (Nat.le_refl _))
    have z2 : zn s2 = zn s1 + 1 := by rw [e9]; rfl
    have u2 : zu s2 = zu s1 + (2 * gs.length + 2) := by rw [e9]; rfl
    have ka2 : kd true s2 a = (0, 21) := (F2.2.1 a hal).trans k1
    have ke2 : kd true s2 (zn s1) = (2, 2 * gs.length + 2) := by rw [e9]; exact kd_nw hz
    have gi : ∀ j, gI s2 a j = gI s1 a j := fun j => by rw [e9, gI_cp2, if_neg (by omega), gI_nw, if_neg (by omega)]
    have gb : ∀ j, gI s2 (zn s1) j = if j < gs.length then gI s1 b j else nI 0 := by
      intro j
      rw [e9, gI_cp2, if_pos rfl]
      by_cases hj : j < gs.length
      · rw [if_pos ⟨by omega, by omega⟩, if_pos hj, show 0 + (j - 0) = j by omega, gI_nw, if_neg (by omega)]
      · rw [if_neg (by omega), if_neg hj, gI_nw, if_pos rfl]; rfl
    show P 21 [some (rf a), some (iv (nI (gs.length + 1))), some (iv (nI gs.length))] [rf (zn s1), rf a] s2
    refine hP _ _ _ _ ?_
    refine grd (b := isOb (kd true s2 a) _ && (!true || (fixR a 0).isNone)) (by rw [ka2, fx_hi ha]; rfl) ?_
    refine ⟨rfl, F2.r (Or.inl rfl), by show zn s2 ≤ _; omega, by show zu s2 ≤ _; omega, zn s1, 2 * gs.length + 2, Or.inr rfl, by show _ < zn s2; omega, by omega, ⟨trivial, trivial⟩, ka2, ke2, ?_, ?_, ?_, ⟨by omega, by omega, h6.2.2⟩, fun i x hx => ?_, fun j => ?_⟩
    · rw [gI_sR, gi]; exact h3
    · rw [gI_sR, gi]; exact h4
    · rw [gR_set ha, if_pos ⟨rfl, rfl⟩]
    · have hi : i < gs.length := (List.getElem?_eq_some_iff.mp hx).1
      rw [gI_sR, gb, if_pos hi]
      exact h7 i x hx
    · rw [gI_sR, gb]
      split
      · exact h8 j
      · exact nar20
theorem b_isLatin {Q : Nat → Prop} {a b cap : Nat} {gs : List Nat} (h : SBDe Q σ a b cap gs) : MC G g l (d+1) mJ14_isLatin1 [rf a] σ (fun r t => r = some (iv (nI 1)) ∧ t = σ) := by
  obtain ⟨-, k1, k2, h3, -⟩ := h
  refine MC1 tJ14_isLatin1 [4] rfl okJ14_isLatin1 rfl rfl rfl rfl (fun P hP => hP _ _ _ _ ?_)
  refine And.intro (fun q => absurd q (by decide)) (fun _ => ?_)
  refine grd (b := isOb (kd true σ a) _) (by rw [k1]; rfl) ?_
  show P 4 [some (rf a)] [iv (gI σ a 1)] σ
  rw [h3]
  exact hP _ _ _ _ (And.intro (fun q => absurd rfl q) (fun _ => ⟨nar1, rfl, rfl⟩))
theorem j_canEnc (c : Nat) (h : c ≤ 255) : MC G g l (d+1) mJ9_canEncode [iv (nI c)] σ (fun r t => r = some (iv (nI 1)) ∧ t = σ) := by
  refine MC0 tJ9_canEncode rfl okJ9_canEncode rfl rfl rfl rfl (fun P => ?_)
  exact And.intro (fun q => absurd (show nI 255 < nI c from q) (by rw [nI_ltI (by omega) (by omega)]; omega)) (fun _ => ⟨nar1, rfl, rfl⟩)
def bapP (σ : AS) (a b c : Nat) (gs : List Nat) (t : AS) : Prop := fS (fun x => x = a ∨ x = b) σ t ∧ zn t ≤ zn σ + 1 ∧ zu t ≤ zu σ + 2 * gs.length + 2 ∧ ∃ b' cap', (b' = b ∨ b' = zn σ) ∧ b' < zn t ∧ SBDe (fun _ => True) t a b' cap' (gs ++ [c])
theorem sg_nar {c : Nat} (h : sgOK c) : vp_nar (tyOf 2) (nI c) = nI c ∧ NarOK 2 (nI c) := by
  rcases h with rfl | rfl | rfl | rfl <;> exact ⟨rfl, rfl, rfl⟩
set_option maxHeartbeats 1000000 in
theorem b_append14 {Q : Nat → Prop} {a b cap c : Nat} {gs : List Nat} (h : SBDe Q σ a b cap gs) (ha : 268 ≤ a) (hal : a < zn σ) (hbl : b < zn σ) (hab : a ≠ b) (h40 : gs.length < 4000) (h1 : 1 ≤ cap) (hr1 : zn σ + 1 ≤ CMAX) (hr2 : zu σ + 2 * gs.length + 2 ≤ SMAX) (hc : sgOK c) :
    MC G g l (d+5) mJ14_append [rf a, iv (nI c)] σ (fun r t => r = some (rf a) ∧ bapP σ a b c gs t) := by
  have k1 := h.2.1
  have h4 := h.2.2.2.2.1
  refine MC1 tJ14_append [5, 6, 7, 12, 14, 17, 20, 21, 23, 24] rfl okJ14_append rfl rfl rfl rfl (fun P hP => hP _ _ _ _ ?_)
  refine grd (b := isOb (kd true σ a) _) (by rw [k1]; rfl) ?_
  show P 5 [some (rf a), some (iv (nI c))] [iv (gI σ a 3 + nI 1), rf a] σ
  refine hP _ _ _ _ (sv1 rfl rfl k1 rfl rfl (mcall (b_ensure G g l d σ h ha hal hbl h40 h1 hr1 hr2 _ (show gI σ a 3 + nI 1 = _ by rw [h4, nI_add])) (fun r s1 h9 => ?_)))
  obtain ⟨rfl, F1, z1, u1, b', cap', hb', hbz, hcap, hS⟩ := h9
  have hS0 := hS
  obtain ⟨-, m1, m2, m3, m4, m5, m6, m7, m8⟩ := hS
  have hab' : a ≠ b' := by rcases hb' with q | q <;> omega
  show P 6 [some (rf a), some (iv (nI c))] [] s1
  refine hP _ _ _ _ ?_
  show P 7 [some (rf a), some (iv (nI c))] [rf a] s1
  refine hP _ _ _ _ (sv0 rfl rfl m1 rfl rfl (mcall (b_isLatin G g l (d+3) s1 hS0) (fun r s2 h9 => ?_)))
  obtain ⟨rfl, e9⟩ := h9
  subst e9
  refine And.intro (fun q => absurd q (by decide)) (fun _ => ?_)
  refine mcall (j_canEnc G g l (d+3) s2 c (by rcases hc with rfl | rfl | rfl | rfl <;> decide)) (fun r s3 h9 => ?_)
  obtain ⟨rfl, e9⟩ := h9
  subst e9
  refine And.intro (fun q => absurd q (by decide)) (fun _ => ?_)
  show P 12 [some (rf a), some (iv (nI c))] [] s3
  refine hP _ _ _ _ ?_
  refine grd (b := isOb (kd true s3 a) _) (by rw [m1]; rfl) ?_
  show P 14 [some (rf a), some (iv (nI c))] [rw_ (gR true s3 a 0)] s3
  rw [m5]
  refine hP _ _ _ _ ?_
  refine grd (b := isOb (kd true s3 a) _) (by rw [m1]; rfl) ?_
  show P 17 [some (rf a), some (iv (nI c))] [iv (gI s3 a 3), rf a, rf b'] s3
  rw [m4]
  refine hP _ _ _ _ ?_
  show P 20 [some (rf a), some (iv (nI c))] [iv (nI gs.length + nI 1), rf a, iv (nI gs.length), rf b'] s3
  rw [nI_add]
  refine hP _ _ _ _ ?_
  refine grd (b := isOb (kd true s3 a) _) (by rw [m1]; rfl) ?_
  show P 21 [some (rf a), some (iv (nI c))] [iv (nI gs.length), rf b'] (sI s3 a 3 (nI (gs.length + 1)))
  generalize hu : sI s3 a 3 (nI (gs.length + 1)) = u
  have n1 : kd true u a = (0, 21) := by rw [← hu]; exact m1
  have n2 : kd true u b' = (2, cap') := by rw [← hu]; exact m2
  have FU : fS (fun x => x = a ∨ x = b) σ u := by rw [← hu]; exact (F1.mono (fun c _ q => Or.inl q)).i (Or.inl (Or.inl rfl))
  have cl : (nI gs.length).toNatClampNeg = gs.length := clN (by omega)
  have fin : P 23 [some (rf a), some (iv (nI c))] [iv (nI c), iv (nI gs.length), rf b'] u := by
    refine hP _ _ _ _ ?_
    refine grd (b := Nat.beq (kd true u b').1 1 || Nat.beq (kd true u b').1 2) (by rw [n2]; rfl) ?_
    refine And.intro (show vp_in (nI gs.length) (kd true u b').2 by rw [n2]; exact vinN (by show gs.length < cap'; omega) (by show cap' ≤ 1000000; omega)) ?_
    show P 24 [some (rf a), some (iv (nI c))] [] (sI u b' (nI gs.length).toNatClampNeg (vp_nar (tyOf (kd true u b').1) (nI c)))
    rw [cl, n2, show vp_nar (tyOf (2, cap').1) (nI c) = nI c from (sg_nar hc).1]
    refine hP _ _ _ _ ⟨rfl, FU.i (by rcases hb' with q | q; exact Or.inl (Or.inr q); exact Or.inr (by omega)), by rw [← hu]; exact z1, by rw [← hu]; exact u1, b', cap', hb', by rw [← hu]; exact hbz, ⟨trivial, trivial⟩, n1, n2, ?_, ?_, ?_, ⟨by simp; omega, by simp; omega, by simp; omega⟩, fun i x hx => ?_, fun j => ?_⟩
    · rw [gI_sI, if_neg (by omega), ← hu, gI_sI, if_neg (by omega)]; exact m3
    · rw [gI_sI, if_neg (by omega), ← hu, gI_sI, if_pos ⟨rfl, rfl⟩, List.length_append]; rfl
    · rw [gR_sI, ← hu, gR_sI]; exact m5
    · rw [gI_sI]
      by_cases e1 : i = gs.length
      · rw [if_pos ⟨rfl, e1⟩]
        rw [e1] at hx
        simp at hx
        rw [← hx]
        exact ⟨rfl, hc⟩
      · rw [if_neg (by omega), ← hu, gI_sI, if_neg (by omega)]
        have hi : i < (gs ++ [c]).length := (List.getElem?_eq_some_iff.mp hx).1
        have hi : i < gs.length := by simp at hi; omega
        rw [List.getElem?_append_left hi] at hx
        exact m7 i x hx
    · rw [gI_sI]
      split
      · exact (sg_nar hc).2
      · rw [← hu, gI_sI, if_neg (by omega)]; exact m8 j
  refine hP _ _ _ _ ?_
  rcases hc with rfl | rfl | rfl | rfl <;> exact fin
theorem b_append {Q : Nat → Prop} {a b cap c : Nat} {gs : List Nat} (h : SBDe Q σ a b cap gs) (ha : 268 ≤ a) (hal : a < zn σ) (hbl : b < zn σ) (hab : a ≠ b) (h40 : gs.length < 4000) (h1 : 1 ≤ cap) (hr1 : zn σ + 1 ≤ CMAX) (hr2 : zu σ + 2 * gs.length + 2 ≤ SMAX) (hc : sgOK c) :
    MC G g l (d+6) mJ15_append [rf a, iv (nI c)] σ (fun r t => r = some (rf a) ∧ bapP σ a b c gs t) := by
  have k1 := h.2.1
  refine MC1 tJ15_append [2, 3] rfl okJ15_append rfl rfl rfl rfl (fun P hP => hP _ _ _ _ ?_)
  show P 2 [some (rf a), some (iv (nI c))] [iv (nI c), rf a] σ
  refine hP _ _ _ _ ?_
  refine grd (b := supOK (kd true σ a) _ && _) (by rw [k1]; rfl) ?_
  refine mcall (b_append14 G g l d σ h ha hal hbl hab h40 h1 hr1 hr2 hc) (fun r s1 h9 => ?_)
  obtain ⟨rfl, h9⟩ := h9
  show P 3 [some (rf a), some (iv (nI c))] [rf a] s1
  exact hP _ _ _ _ ⟨rfl, h9⟩
end DJ_
