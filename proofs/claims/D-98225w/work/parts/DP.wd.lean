/-! words of the reader -/
theorem let_c {k : Nat} (h : k < 26) : bS (97 + k) = nI (97 + k) ∧ ((nI (97 + k)).toUInt32 % 65536).toInt32 = nI (97 + k) ∧ vp_nar .char (nI (97 + k)) = nI (97 + k) := by
  have h1 : ∀ k : Fin 26, bS (97 + k.val) = nI (97 + k.val) := by decide
  have h2 : ∀ k : Fin 26, ((nI (97 + k.val)).toUInt32 % 65536).toInt32 = nI (97 + k.val) := by decide
  have h3 : ∀ k : Fin 26, vp_nar .char (nI (97 + k.val)) = nI (97 + k.val) := by decide
  exact ⟨h1 ⟨k, h⟩, h2 ⟨k, h⟩, h3 ⟨k, h⟩⟩
theorem sub_get2 {tp : List Nat} {a b i : Nat} (h : i < b - a) : (sub_ tp a b)[i]? = tp[a + i]? := by
  unfold sub_
  rw [List.getElem?_take, if_pos h, List.getElem?_drop]
theorem sub_len2 {tp : List Nat} {a b : Nat} (h1 : a ≤ b) (h2 : b ≤ tp.length) : (sub_ tp a b).length = b - a := by
  unfold sub_
  rw [List.length_take, List.length_drop]
  omega
theorem sub_isL {tp : List Nat} {a : Nat} : isLw (sub_ tp a (wEn tp a)) := by
  intro x hx
  obtain ⟨i, hi⟩ := List.mem_iff_getElem?.mp hx
  have hlt : i < wEn tp a - a := by
    have := (List.getElem?_eq_some_iff.mp hi).1
    unfold sub_ at this
    rw [List.length_take] at this
    omega
  rw [sub_get2 hlt] at hi
  have h1 : isAt isL tp (a + i) = true := endE_in (a := a) (by omega) (show a + i < wEn tp a by omega)
  unfold isAt at h1
  rw [hi] at h1
  exact of_decide_eq_true h1
section DP_
variable (G : CX) (g : GX) (l : Launch) (d : Nat) (σ : AS)
theorem x2_parted (tp : List Nat) (h : XRr tp σ) (a : Nat) (ha : gI σ 9 2 = nI a) (hal : a ≤ tp.length) : XC G g l (d+2) mX2_parted [tR] σ (fun r t => prLD tp a = false ∧ r = none ∧ t = σ) (fun t => prLD tp a = true ∧ t = wS σ 1 a) := by
  have hl := h.1.1
  have h25 := h.1.lt
  refine XC1 tX2_parted [5, 6, 7, 13, 14, 15, 16, 20, 21] rfl okX2_parted rfl rfl rfl rfl (fun P hP => hP _ _ _ _ ?_)
  have bad : prLD tp a = true → P 16 [some tR] [] σ := by
    intro e
    refine hP _ _ _ _ ?_
    show P 20 [some tR] [iv (gI σ 9 2), iv (nI 1), tR] σ
    refine hP _ _ _ _ ?_
    refine mcall (x2_wrong G g l d σ _ _ 1 a rfl ha) (fun r s1 h9 => ?_)
    obtain ⟨rfl, e9⟩ := h9
    show P 21 [some tR] [rf 10] s1
    exact hP _ _ _ _ ⟨e, e9⟩
  show P 5 [some tR] [iv (gI σ 9 2 - nI 1), tR] σ
  rw [ha]
  cases a with
  | zero =>
    refine hP _ _ _ _ ?_
    refine mcall (x2_byteAtM G g l d σ tp h) (fun r s1 h9 => ?_)
    obtain ⟨rfl, e9⟩ := h9
    subst e9
    show P 6 [some tR] [iv (- nI 1)] s1
    refine hP _ _ _ _ ?_
    refine mcall (x_isL G g l d s1 (- nI 1)) (fun r s2 h9 => ?_)
    obtain ⟨rfl, e9⟩ := h9
    subst e9
    show P 7 [some tR] [iv (nI 0)] s2
    refine hP _ _ _ _ (And.intro (fun q => absurd rfl q) (fun _ => ?_))
    show P 13 [some tR] [iv (gI s2 9 2 - nI 1), tR] s2
    rw [ha]
    refine hP _ _ _ _ ?_
    refine mcall (x2_byteAtM G g l d s2 tp h) (fun r s3 h9 => ?_)
    obtain ⟨rfl, e9⟩ := h9
    subst e9
    show P 14 [some tR] [iv (- nI 1)] s3
    refine hP _ _ _ _ ?_
    refine mcall (x_isD G g l d s3 (- nI 1)) (fun r s4 h9 => ?_)
    obtain ⟨rfl, e9⟩ := h9
    subst e9
    show P 15 [some tR] [iv (nI 0)] s4
    exact hP _ _ _ _ (And.intro (fun _ => ⟨rfl, rfl, rfl⟩) (fun q => absurd rfl q))
  | succ a =>
    have e1 : nI (a + 1) - nI 1 = nI a := nI_s1 _ _ (by omega)
    have ep : prLD tp (a + 1) = (isAt isL tp a || isAt isD tp a) := rfl
    rw [e1]
    refine hP _ _ _ _ ?_
    refine mcall (x2_byteAt G g l d σ tp h _ a rfl (by omega)) (fun r s1 h9 => ?_)
    obtain ⟨rfl, e9⟩ := h9
    subst e9
    show P 6 [some tR] [iv (bA tp a)] s1
    refine hP _ _ _ _ ?_
    refine mcall (x_isL G g l d s1 (bA tp a)) (fun r s2 h9 => ?_)
    obtain ⟨rfl, e9⟩ := h9
    subst e9
    rw [bA_L h25]
    show P 7 [some tR] [iv (bI (isAt isL tp a))] s2
    cases hL : isAt isL tp a with
    | true => exact hP _ _ _ _ (And.intro (fun _ => bad (by rw [ep, hL]; rfl)) (fun q => absurd q (by decide)))
    | false =>
      refine hP _ _ _ _ (And.intro (fun q => absurd rfl q) (fun _ => ?_))
      show P 13 [some tR] [iv (gI s2 9 2 - nI 1), tR] s2
      rw [ha, e1]
      refine hP _ _ _ _ ?_
      refine mcall (x2_byteAt G g l d s2 tp h _ a rfl (by omega)) (fun r s3 h9 => ?_)
      obtain ⟨rfl, e9⟩ := h9
      subst e9
      show P 14 [some tR] [iv (bA tp a)] s3
      refine hP _ _ _ _ ?_
      refine mcall (x_isD G g l d s3 (bA tp a)) (fun r s4 h9 => ?_)
      obtain ⟨rfl, e9⟩ := h9
      subst e9
      rw [bA_D h25]
      show P 15 [some tR] [iv (bI (isAt isD tp a))] s4
      cases hD : isAt isD tp a with
      | true => exact hP _ _ _ _ (And.intro (fun q => absurd q (by decide)) (fun _ => bad (by rw [ep, hD, Bool.or_true])))
      | false => exact hP _ _ _ _ (And.intro (fun _ => ⟨by rw [ep, hL, hD]; rfl, rfl, rfl⟩) (fun q => absurd rfl q))
/-- after a word of the letters from a on -/
def wrdP (tp : List Nat) (a : Nat) (σ t : AS) : Prop := fS (fun c => c = 9) σ t ∧ zn t = zn σ + 3 ∧ zu t = zu σ + 2 * (wEn tp a - a) + 4 ∧ STn t (zn σ + 1) (sub_ tp a (wEn tp a)) ∧ gR true t (zn σ + 1) 0 = some (.inl (zn σ + 2)) ∧ gI t 9 2 = nI (wEn tp a) ∧ gI t 9 3 = nI a ∧ ∀ k, k ≠ 2 → k ≠ 3 → gI t 9 k = gI σ 9 k
set_option maxHeartbeats 2000000 in
theorem x2_word (tp : List Nat) (h : XRr tp σ) (a0 : Nat) (ha : gI σ 9 2 = nI a0) (hal : a0 ≤ tp.length) (hz : 268 ≤ zn σ) (hr1 : zn σ + 3 ≤ CMAX) (hr2 : zu σ + 2 * tp.length + 4 ≤ SMAX) :
    XC G g l (d+6) mX2_word [tR] σ (fun r t => (isAt isL tp (skp tp a0) = true ∧ prLD tp (skp tp a0) = false) ∧ r = some (rf (zn σ + 1)) ∧ wrdP tp (skp tp a0) σ t) (fun t => (isAt isL tp (skp tp a0) = false ∨ prLD tp (skp tp a0) = true) ∧ t = wS (sI σ 9 2 (nI (skp tp a0))) 1 (skp tp a0)) := by
  have hl := h.1.1
  have h25 := h.1.lt
  obtain ⟨a, hsk⟩ : ∃ a, skp tp a0 = a := ⟨_, rfl⟩
  have hale : a ≤ tp.length := by rw [← hsk]; exact endE_le isB hal
  rw [hsk]
  refine XC1 tX2_word [2, 3, 8, 9, 11, 12, 16, 19, 29, 34, 35, 36, 39, 53, 54, 55, 58, 59] rfl okX2_word rfl rfl rfl rfl (fun P hP => hP _ _ _ _ ?_)
  refine mcall (x2_here G g l (d+3) σ tp h a0 ha hal) (fun r u0 h9 => ?_)
  rw [hsk] at h9
  obtain ⟨rfl, e0⟩ := h9
  have g0 : gI u0 9 2 = nI a := by rw [e0, gI_sI, if_pos ⟨rfl, rfl⟩]
  have X0_ : XRr tp u0 := by rw [e0]; exact h.at2 (by decide) _
  show P 2 [some tR, none, none] [iv (bA tp a)] u0
  refine hP _ _ _ _ ?_
  refine mcall (x_isL G g l (d+4) u0 (bA tp a)) (fun r s2 h9 => ?_)
  obtain ⟨rfl, e9⟩ := h9
  subst e9
  rw [bA_L h25]
  show P 3 [some tR, none, none] [iv (bI (isAt isL tp a))] s2
  cases hL : isAt isL tp a with
  | false =>
    refine hP _ _ _ _ (And.intro (fun q => absurd rfl q) (fun _ => ?_))
    show P 8 [some tR, none, none] [iv (gI s2 9 2), iv (nI 1), tR] s2
    refine hP _ _ _ _ ?_
    refine mcall (x2_wrong G g l (d+4) s2 _ _ 1 a rfl g0) (fun r s3 h9 => ?_)
    obtain ⟨rfl, e9⟩ := h9
    show P 9 [some tR, none, none] [rf 10] s3
    exact hP _ _ _ _ ⟨Or.inl hL, by rw [e9, e0]⟩
  | true =>
  refine hP _ _ _ _ (And.intro (fun _ => ?_) (fun q => absurd q (by decide)))
  show P 11 [some tR, none, none] [tR] s2
  refine hP _ _ _ _ ?_
  refine xcall (x2_parted G g l (d+3) s2 tp X0_ a g0 hale) (fun r s3 h9 => ?_) (fun s3 h9 => ?_)
  rotate_left
  · exact ⟨Or.inr h9.1, by rw [h9.2, e0]⟩
  obtain ⟨hpr, rfl, e9⟩ := h9
  subst e9
  show P 12 [some tR, none, none] [] s3
  refine hP _ _ _ _ ?_
  show P 16 [some tR, none, none] [] (sI s3 9 3 (gI s3 9 2))
  rw [g0]
  generalize hu1 : sI s3 9 3 (nI a) = u1
  have X1_ : XRr tp u1 := by rw [← hu1]; exact X0_.at2 (by decide) _
  have g1 : gI u1 9 2 = nI a := by rw [← hu1, gI_sI, if_neg (by omega)]; exact g0
  have g13 : gI u1 9 3 = nI a := by rw [← hu1, gI_sI, if_pos ⟨rfl, rfl⟩]
  have hwl : wEn tp a ≤ tp.length := endE_le isL hale
  have hwg : a ≤ wEn tp a := endE_ge isL tp a
  have hw1 : a + 1 ≤ wEn tp a := by
    have : wEn tp a = wEn tp (a+1) := endE_step hL
    rw [this]
    exact endE_ge isL tp (a+1)
  -- what follows
  have after : P 29 [some tR, none, none] [] (sI u1 9 2 (nI (wEn tp a))) := by
    have F2 : fS (fun c => c = 9) σ (sI u1 9 2 (nI (wEn tp a))) := by
      rw [← hu1, e0]
      exact (((fS.rf (Q := fun c => c = 9)).i (Or.inl rfl)).i (Or.inl rfl)).i (Or.inl rfl)
    have X2_ : XRr tp (sI u1 9 2 (nI (wEn tp a))) := X1_.at2 (by decide) _
    have z2 : zn (sI u1 9 2 (nI (wEn tp a))) = zn σ := by rw [← hu1, e0]; rfl
    have v2 : zu (sI u1 9 2 (nI (wEn tp a))) = zu σ := by rw [← hu1, e0]; rfl
    have a2 : gI (sI u1 9 2 (nI (wEn tp a))) 9 2 = nI (wEn tp a) := by rw [gI_sI, if_pos ⟨rfl, rfl⟩]
    have a3 : gI (sI u1 9 2 (nI (wEn tp a))) 9 3 = nI a := by rw [gI_sI, if_neg (by omega)]; exact g13
    have ak : ∀ k, k ≠ 2 → k ≠ 3 → gI (sI u1 9 2 (nI (wEn tp a))) 9 k = gI σ 9 k := fun k h1 h2 => by rw [gI_sI, if_neg (by omega), ← hu1, gI_sI, if_neg (by omega), e0, gI_sI, if_neg (by omega)]
    generalize hu2 : sI u1 9 2 (nI (wEn tp a)) = u2 at F2 X2_ z2 v2 a2 a3 ak
    obtain ⟨n, hn⟩ : ∃ n, wEn tp a - a = n := ⟨_, rfl⟩
    have cn : (nI n).toNatClampNeg = n := clN (by omega)
    refine hP _ _ _ _ ?_
    show P 34 [some tR, none, none] [iv (gI u2 9 2 - gI u2 9 3)] u2
    rw [a2, a3, nI_s1 _ _ hwg, hn]
    refine hP _ _ _ _ ?_
    refine And.intro ⟨show ¬ nI n < nI 0 by rw [nI_ltI (by omega) (by omega)]; omega, show (nI n).toNatClampNeg ≤ 100000 by rw [cn]; omega⟩ ?_
    refine And.intro (show zn u2 + 1 ≤ CMAX ∧ zu u2 + (nI n).toNatClampNeg ≤ SMAX by rw [cn, z2, v2]; exact ⟨by omega, by omega⟩) ?_
    show P 35 [some tR, none, none] [rf (zn u2)] (nw u2 (3, (nI n).toNatClampNeg) (nI n).toNatClampNeg)
    rw [cn, z2]
    have hz2 : 268 ≤ zn u2 := by omega
    have F3 : fS (fun c => c = 9) σ (nw u2 (3, n) n) := F2.nw1 hz2
    have z3 : zn (nw u2 (3, n) n) = zn σ + 1 := by show zn u2 + 1 = _; omega
    have v3 : zu (nw u2 (3, n) n) = zu σ + n := by show zu u2 + n = _; omega
    have k3 : kd true (nw u2 (3, n) n) (zn σ) = (3, n) := by rw [← z2]; exact kd_nw hz2
    have ai : ∀ k, gI (nw u2 (3, n) n) 9 k = gI u2 9 k := fun k => by rw [gI_nw, if_neg (by omega)]
    have at8 : ∀ k, gI (nw u2 (3, n) n) 8 k = gI u2 8 k := fun k => by rw [gI_nw, if_neg (by omega)]
    generalize nw u2 (3, n) n = u3 at F3 z3 v3 k3 ai at8
    refine hP _ _ _ _ ?_
    show P 36 [some tR, some (rf (zn σ)), none] [] u3
    refine hP _ _ _ _ ?_
    show P 39 [some tR, some (rf (zn σ)), some (iv (gI u3 9 3))] [] u3
    rw [ai, a3]
    have hsl : (sub_ tp a (wEn tp a)).length = n := by rw [sub_len hwl]; omega
    have fill : ∀ (m i : Nat) (t : AS), i + m = wEn tp a → a ≤ i → fS (fun c => c = zn σ) u3 t → zn t = zn u3 → zu t = zu u3 → (∀ j x, j < i - a → (sub_ tp a (wEn tp a))[j]? = some x → gI t (zn σ) j = nI x) → P 39 [some tR, some (rf (zn σ)), some (iv (nI i))] [] t := by
      intro m
      induction m with
      | zero =>
        intro i t hi hai F hzt hvt hd
        have b2 : gI t 9 2 = nI (wEn tp a) := by rw [(F.1 9 (by omega) (by omega) 2).1, ai, a2]
        refine hP _ _ _ _ (And.intro (fun _ => ?_) (fun q => absurd (show gI t 9 2 ≤ nI i by rw [b2]; exact nI_le (by omega) (by omega)) q))
        show P 58 [some tR, some (rf (zn σ)), some (iv (nI i))] [rf (zn σ)] t
        refine hP _ _ _ _ ?_
        refine mcall (j_valueOf G g l d t (zn σ) (sub_ tp a (wEn tp a)) sub_isL (by omega) (by omega) (by omega) (by omega) (by rw [hsl]; exact (F.2.1 (zn σ) (by omega)).trans k3) (fun j x hx => hd j x (by have := (List.getElem?_eq_some_iff.mp hx).1; omega) hx) (by omega) (by omega)) (fun r s6 h9 => ?_)
        obtain ⟨rfl, F6, z6, v6, S6, R6⟩ := h9
        rw [hzt, z3] at S6 R6
        have e6 : zn t = zn σ + 1 := by omega
        rw [e6]
        show P 59 [some tR, some (rf (zn σ)), some (iv (nI i))] [rf (zn σ + 1)] s6
        have FF : fS (fun c => c = 9) σ s6 := (F3.tr F (fun c h1 h2 => by omega)).tr F6 (fun c h1 h2 => h2.elim)
        have c9 : ∀ k, gI s6 9 k = gI u2 9 k := fun k => by rw [(F6.1 9 (by omega) (fun z => z) k).1, (F.1 9 (by omega) (by omega) k).1, ai]
        refine hP _ _ _ _ ⟨⟨hL, hpr⟩, rfl, FF, by omega, by omega, S6, R6, by rw [c9]; exact a2, by rw [c9]; exact a3, fun k h1 h2 => by rw [c9]; exact ak k h1 h2⟩
      | succ m ih =>
        intro i t hi hai F hzt hvt hd
        have b2 : gI t 9 2 = nI (wEn tp a) := by rw [(F.1 9 (by omega) (by omega) 2).1, ai, a2]
        have b3 : gI t 9 3 = nI a := by rw [(F.1 9 (by omega) (by omega) 3).1, ai, a3]
        have kt : kd true t (zn σ) = (3, n) := (F.2.1 (zn σ) (by omega)).trans k3
        obtain ⟨x, hx⟩ : ∃ x, tp[i]? = some x := ⟨_, List.getElem?_eq_getElem (by omega)⟩
        have hat : isAt isL tp i = true := endE_in hai (show i < wEn tp a by omega)
        have hxl : 97 ≤ x ∧ x ≤ 122 := by
          unfold isAt at hat
          rw [hx] at hat
          exact of_decide_eq_true hat
        obtain ⟨k, hk, rfl⟩ : ∃ k, k < 26 ∧ x = 97 + k := ⟨x - 97, by omega, by omega⟩
        have b8 : gI t 8 i = nI (97 + k) := by rw [(F.1 8 (by omega) (by omega) i).1, at8, (X2_.1.2 i _ hx).1]; exact (let_c hk).1
        have ci : (nI i).toNatClampNeg = i := clN (by omega)
        refine hP _ _ _ _ (And.intro (fun q => absurd (show gI t 9 2 ≤ nI i from q) (by rw [b2]; exact nI_ge (by omega) (by omega))) (fun _ => ?_))
        refine And.intro (show vp_in (nI i) 1600 from vinN (by omega) (by decide)) ?_
        show P 53 [some tR, some (rf (zn σ)), some (iv (nI i))] [iv (gI t 8 (nI i).toNatClampNeg), iv (nI i - gI t 9 3), rf (zn σ)] t
        rw [ci, b8, b3, nI_s1 _ _ hai]
        refine hP _ _ _ _ ?_
        show P 54 [some tR, some (rf (zn σ)), some (iv (nI i))] [iv (((nI (97 + k)).toUInt32 % 65536).toInt32), iv (nI (i - a)), rf (zn σ)] t
        rw [(let_c hk).2.1]
        refine hP _ _ _ _ ?_
        refine grd (b := Nat.beq (kd true t (zn σ)).1 3) (by rw [kt]; rfl) ?_
        refine And.intro (show vp_in (nI (i - a)) (kd true t (zn σ)).2 by rw [kt]; exact vinN (by show i - a < n; omega) (by show n ≤ 1000000; omega)) ?_
        show P 55 [some tR, some (rf (zn σ)), some (iv (nI i))] [] (sI t (zn σ) (nI (i - a)).toNatClampNeg (vp_nar .char (nI (97 + k))))
        rw [(let_c hk).2.2, clN (by omega)]
        refine hP _ _ _ _ ?_
        show P 39 [some tR, some (rf (zn σ)), some (iv (nI i + nI 1))] [] (sI t (zn σ) (i - a) (nI (97 + k)))
        rw [nI_add]
        refine ih (i+1) _ (by omega) (by omega) (F.i (Or.inl rfl)) hzt hvt (fun j y hj hy => ?_)
        rw [gI_sI]
        by_cases e : j = i - a
        · rw [if_pos ⟨rfl, e⟩]
          rw [e, sub_get (by omega), show a + (i - a) = i by omega, hx] at hy
          exact congrArg nI (Option.some.inj hy)
        · rw [if_neg (by omega)]; exact hd j y (by omega) hy
    exact fill (wEn tp a - a) a u3 (by omega) (Nat.le_refl _) fS.rf rfl rfl (fun j x hj => by omega)
  have loop : ∀ (m i : Nat), i + m = wEn tp a → a ≤ i → P 16 [some tR, none, none] [] (sI u1 9 2 (nI i)) := by
    intro m
    induction m with
    | zero =>
      intro i hi hai
      have hi : i = wEn tp a := by omega
      subst hi
      have hend : isAt isL tp (wEn tp a) = false := endE_end isL tp a
      refine hP _ _ _ _ ?_
      show P 19 [some tR, none, none] [iv (gI (sI u1 9 2 (nI (wEn tp a))) 9 2), tR] (sI u1 9 2 (nI (wEn tp a)))
      refine hP _ _ _ _ ?_
      refine mcall (x2_byteAt G g l (d+4) _ tp (X1_.at2 (k := 2) (by decide) _) _ (wEn tp a) (show gI (sI u1 9 2 (nI (wEn tp a))) 9 2 = _ by rw [gI_sI, if_pos ⟨rfl, rfl⟩]) (by omega)) (fun r s4 h9 => ?_)
      obtain ⟨rfl, e9⟩ := h9
      subst e9
      refine mcall (x_isL G g l (d+4) _ (bA tp (wEn tp a))) (fun r s5 h9 => ?_)
      obtain ⟨rfl, e9⟩ := h9
      subst e9
      rw [bA_L h25, hend]
      exact And.intro (fun _ => after) (fun q => absurd rfl q)
    | succ m ih =>
      intro i hi hai
      have hat : isAt isL tp i = true := endE_in hai (show i < wEn tp a by omega)
      refine hP _ _ _ _ ?_
      show P 19 [some tR, none, none] [iv (gI (sI u1 9 2 (nI i)) 9 2), tR] (sI u1 9 2 (nI i))
      refine hP _ _ _ _ ?_
      refine mcall (x2_byteAt G g l (d+4) _ tp (X1_.at2 (k := 2) (by decide) _) _ i (show gI (sI u1 9 2 (nI i)) 9 2 = _ by rw [gI_sI, if_pos ⟨rfl, rfl⟩]) (by omega)) (fun r s4 h9 => ?_)
      obtain ⟨rfl, e9⟩ := h9
      subst e9
      refine mcall (x_isL G g l (d+4) _ (bA tp i)) (fun r s5 h9 => ?_)
      obtain ⟨rfl, e9⟩ := h9
      subst e9
      rw [bA_L h25, hat]
      refine And.intro (fun q => absurd q (by decide)) (fun _ => ?_)
      show P 16 [some tR, none, none] [] (sI (sI u1 9 2 (nI i)) 9 2 (gI (sI u1 9 2 (nI i)) 9 2 + nI 1))
      rw [sI_sI, gI_sI, if_pos ⟨rfl, rfl⟩, nI_add]
      exact ih (i+1) (by omega) (by omega)
  have := loop (wEn tp a - a) a (by omega) (Nat.le_refl _)
  rw [← g1, sI_id] at this
  exact this
end DP_
