/-! KEPT STATES of the component: kept (77), states at 78 + 5 i, each with its arrays behind it; undos (field 28) -/
theorem gI_sR (s : AS) (a k b j : Nat) (v : AR) : gI (sR s a k v) b j = gI s b j := rfl
theorem gL_sR (s : AS) (a k b j : Nat) (v : AR) : gL (sR s a k v) b j = gL s b j := rfl
theorem gR_sI (s : AS) (a k b j : Nat) (v : Int32) : gR true (sI s a k v) b j = gR true s b j := rfl
theorem gR_sL (s : AS) (a k b j : Nat) (v : Int64) : gR true (sL s a k v) b j = gR true s b j := rfl
theorem gR_sRo {s : AS} {a k b j : Nat} {v : AR} (h : ¬ (b = a ∧ j = k)) : gR true (sR s a k v) b j = gR true s b j := by
  show rfx b j (if b = a ∧ j = k then v else s.2.2.1 b j) = rfx b j (s.2.2.1 b j)
  rw [if_neg h]
theorem gR_77 (s : AS) (k j : Nat) (v : AR) : gR true (sR s 77 k v) 77 j = if j = k then v else gR true s 77 j := by
  show (if 77 = 77 ∧ j = k then v else s.2.2.1 77 j) = _
  by_cases e : j = k
  · rw [if_pos ⟨rfl, e⟩, if_pos e]
  · rw [if_neg (fun z => e z.2), if_neg e]; rfl
/-- as kS, without new cells -/
def yS (fs ids : List Nat) (σ t : AS) : Prop := kS fs ids σ t ∧ zn t = zn σ ∧ zu t = zu σ
theorem yS.rf {fs ids : List Nat} {σ : AS} : yS fs ids σ σ := ⟨kS.rf, rfl, rfl⟩
theorem yS.tr {fs ids : List Nat} {σ s t : AS} (h1 : yS fs ids σ s) (h2 : yS fs ids s t) : yS fs ids σ t := ⟨h1.1.tr h2.1, h2.2.1.trans h1.2.1, h2.2.2.trans h1.2.2⟩
theorem yS.mono {fs ids fs' ids' : List Nat} {σ s : AS} (h : yS fs ids σ s) (h1 : fs.all (fun k => fs'.contains k) = true) (h2 : ids.all (fun k => ids'.contains k) = true) : yS fs' ids' σ s := ⟨h.1.mono h1 h2, h.2⟩
theorem xS.y {fs ids : List Nat} {σ t : AS} (h : xS fs ids σ t) : yS fs ids σ t := ⟨h.k, zn_of h.2, zu_of h.2⟩
theorem yS.i {fs ids : List Nat} {σ s : AS} (h : yS fs ids σ s) (hz : 268 ≤ zn σ) (a k : Nat) (h0 : Nat.blt a 268 = true) (h1 : ids.contains a = false) (h2 : (Nat.beq a 0 && fs.contains k) = false) : gI s a k = gI σ a k ∧ gL s a k = gL σ a k ∧ gR true s a k = gR true σ a k := by
  have h0 : a < 268 := Nat.le_of_ble_eq_true h0
  refine h.1.1 a k (by omega) (by simpa using h1) (fun e q => ?_)
  subst e
  have : fs.contains k = true := by simpa using q
  rw [this] at h2
  cases h2
theorem XTn.ys {fs ids : List Nat} {T : Twn} {σ t : AS} (h : XTn T σ) (hS : yS fs ids σ t) (hz : 268 ≤ zn σ) (hi : ids_q ids = true) (hf : fs.contains 0 = false) : XTn T t := h.ks hS.1 hi hf (by omega)
theorem XNw.ys {fs ids : List Nat} {T : Twn} {n : Nws} {σ s : AS} (h : XNw T n σ) (hS : yS fs ids σ s) (hz : 268 ≤ zn σ) (h9 : ([16, 17, 18, 19, 20].all (fun a => !ids.contains a)) = true) : XNw T n s := by
  have hk : ∀ a, a ∈ [16, 17, 18, 19, 20] → ids.contains a = false := fun a ha => by
    have := List.all_eq_true.mp h9 a ha
    simpa using this
  have e0 : ∀ k, gI s 16 k = gI σ 16 k := fun k => (hS.i hz 16 k rfl (hk _ (by simp)) rfl).1
  have e1 : ∀ k, gI s 17 k = gI σ 17 k := fun k => (hS.i hz 17 k rfl (hk _ (by simp)) rfl).1
  have e2 : ∀ k, gI s 18 k = gI σ 18 k := fun k => (hS.i hz 18 k rfl (hk _ (by simp)) rfl).1
  have e3 : ∀ k, gI s 19 k = gI σ 19 k := fun k => (hS.i hz 19 k rfl (hk _ (by simp)) rfl).1
  have e4 : ∀ k, gI s 20 k = gI σ 20 k := fun k => (hS.i hz 20 k rfl (hk _ (by simp)) rfl).1
  unfold XNw at h ⊢
  simp only [e0, e1, e2, e3, e4]
  exact h
/-- a State object at c holds x -/
def XSt (T : Twn) (x : Nws) (c : Nat) (σ : AS) : Prop := gI σ c 0 = nI (Nhr x) ∧ (∀ s, s < Tns T → gI σ (c+1) s = nI (Nsh x s)) ∧ (∀ w, w < Tnw T → gI σ (c+2) w = nI (Nat_ x w) ∧ gI σ (c+3) w = nI (Nto x w) ∧ gI σ (c+4) w = nI (Nfr x w))
theorem XNw.st {T : Twn} {n : Nws} {σ : AS} : XNw T n σ ↔ XSt T n 16 σ := Iff.rfl
/-- a State object's kind and arrays -/
def StC (c : Nat) (σ : AS) : Prop := kd true σ c = (0, 5) ∧ kd true σ (c+1) = (5, 12) ∧ kd true σ (c+2) = (5, 6) ∧ kd true σ (c+3) = (5, 6) ∧ kd true σ (c+4) = (5, 6) ∧ gR true σ c 1 = some (.inl (c+1)) ∧ gR true σ c 2 = some (.inl (c+2)) ∧ gR true σ c 3 = some (.inl (c+3)) ∧ gR true σ c 4 = some (.inl (c+4))
theorem StC.of {c : Nat} {σ t : AS} (h : StC c σ) (he : t.2.2 = σ.2.2) : StC c t := by
  obtain ⟨h1, h2, h3, h4, h5, r1, r2, r3, r4⟩ := h
  exact ⟨(kd_of he _).trans h1, (kd_of he _).trans h2, (kd_of he _).trans h3, (kd_of he _).trans h4, (kd_of he _).trans h5, (gR_of he _ _).trans r1, (gR_of he _ _).trans r2, (gR_of he _ _).trans r3, (gR_of he _ _).trans r4⟩
theorem StC16 (σ : AS) : StC 16 σ := ⟨rfl, rfl, rfl, rfl, rfl, rfl, rfl, rfl, rfl⟩
/-- only the State at c has changed -/
def cpS (c : Nat) (σ t : AS) : Prop := (∀ a k, ¬ (c ≤ a ∧ a ≤ c + 4) → gI t a k = gI σ a k) ∧ (∀ a k, gL t a k = gL σ a k) ∧ t.2.2 = σ.2.2
theorem cpS.set {c : Nat} {σ t : AS} (h : cpS c σ t) {a k : Nat} {v : Int32} (ha : c ≤ a ∧ a ≤ c + 4) : cpS c σ (sI t a k v) := by
  refine ⟨fun b j hb => ?_, h.2.1, h.2.2⟩
  rw [gI_sI, if_neg (fun z => hb (by rw [z.1]; exact ha))]
  exact h.1 b j hb
section KP_
variable (G : CX) (g : GX) (l : Launch) (d : Nat) (σ : AS)
set_option maxHeartbeats 1000000 in
theorem x_copy (T : Twn) (hT : TOK T) (x : Nws) (c1 c2 : Nat) (h1 : StC c1 σ) (h2 : StC c2 σ) (hd : c1 + 4 < c2 ∨ c2 + 4 < c1) (hx : XSt T x c2 σ) : MC G g l (d+1) mX5_copy [rf c1, rf c2] σ (fun r t => r = none ∧ cpS c1 σ t ∧ XSt T x c1 t) := by
  have hn := hT.1
  refine MC1 tX5_copy [2, 3, 6, 15, 21, 30, 38, 46] rfl okX5_copy rfl rfl rfl rfl (fun P hP => ?_)
  have keep2 : ∀ τ, cpS c1 σ τ → ∀ a k, c2 ≤ a → a ≤ c2 + 4 → gI τ a k = gI σ a k := fun τ hτ a k ha hb => hτ.1 a k (by omega)
  have walk : ∀ (m w : Nat) (τ : AS), w + m = 6 → cpS c1 σ τ → gI τ c1 0 = gI σ c2 0 → (∀ j, j < 12 → gI τ (c1+1) j = gI σ (c2+1) j) → (∀ j, j < w → gI τ (c1+2) j = gI σ (c2+2) j ∧ gI τ (c1+3) j = gI σ (c2+3) j ∧ gI τ (c1+4) j = gI σ (c2+4) j) → P 21 [some (rf c1), some (rf c2), some (iv (nI w))] [] τ := by
    intro m
    induction m with
    | zero =>
      intro w τ hm hτ e0 e1 e2
      refine hP _ _ _ _ (And.intro (fun _ => ⟨rfl, hτ, ?_, fun s hs => ?_, fun w hw => ?_⟩) (fun q => absurd (nI_le (by omega) (by omega)) q))
      · rw [e0]; exact hx.1
      · rw [e1 s (by omega)]; exact hx.2.1 s hs
      · obtain ⟨a1, a2, a3⟩ := e2 w (by omega)
        rw [a1, a2, a3]; exact hx.2.2 w hw
    | succ m ih =>
      intro w τ hm hτ e0 e1 e2
      have g1 := h1.of hτ.2.2
      have g2 := h2.of hτ.2.2
      have vw : vp_in (nI w) 6 := vinN (by omega) (by decide)
      have cw : (nI w).toNatClampNeg = w := clN (by omega)
      refine hP _ _ _ _ (And.intro (fun q => absurd q (nI_ge (by omega) (by omega))) (fun _ => ?_))
      refine grd (b := isOb (kd true τ c1) _) (by rw [g1.1]; rfl) ?_
      refine grd (b := isOb (kd true τ c2) _) (by rw [g2.1]; rfl) ?_
      show P 30 [some (rf c1), some (rf c2), some (iv (nI w))] [iv (nI w), rw_ (gR true τ c2 2), iv (nI w), rw_ (gR true τ c1 2)] τ
      rw [g1.2.2.2.2.2.2.1, g2.2.2.2.2.2.2.1]
      refine hP _ _ _ _ ?_
      refine grd (b := Nat.beq (kd true τ (c2+2)).1 5) (by rw [g2.2.2.1]; rfl) ?_
      refine And.intro (show vp_in (nI w) (kd true τ (c2+2)).2 by rw [g2.2.2.1]; exact vw) ?_
      refine grd (b := Nat.beq (kd true τ (c1+2)).1 5) (by rw [g1.2.2.1]; rfl) ?_
      refine And.intro (show vp_in (nI w) (kd true τ (c1+2)).2 by rw [g1.2.2.1]; exact vw) ?_
      generalize hτ1 : sI τ (c1+2) w (gI τ (c2+2) w) = τ1
      have q1 : cpS c1 σ τ1 := by rw [← hτ1]; exact hτ.set (by omega)
      have k1 := h1.of q1.2.2
      have k2 := h2.of q1.2.2
      refine grd (b := isOb (kd true (sI τ (c1+2) (nI w).toNatClampNeg (gI τ (c2+2) (nI w).toNatClampNeg)) c1) _) (by rw [cw, hτ1, k1.1]; rfl) ?_
      refine grd (b := isOb (kd true (sI τ (c1+2) (nI w).toNatClampNeg (gI τ (c2+2) (nI w).toNatClampNeg)) c2) _) (by rw [cw, hτ1, k2.1]; rfl) ?_
      show P 38 [some (rf c1), some (rf c2), some (iv (nI w))] [iv (nI w), rw_ (gR true (sI τ (c1+2) (nI w).toNatClampNeg (gI τ (c2+2) (nI w).toNatClampNeg)) c2 3), iv (nI w), rw_ (gR true (sI τ (c1+2) (nI w).toNatClampNeg (gI τ (c2+2) (nI w).toNatClampNeg)) c1 3)] (sI τ (c1+2) (nI w).toNatClampNeg (gI τ (c2+2) (nI w).toNatClampNeg))
      rw [cw, hτ1, k1.2.2.2.2.2.2.2.1, k2.2.2.2.2.2.2.2.1]
      refine hP _ _ _ _ ?_
      refine grd (b := Nat.beq (kd true τ1 (c2+3)).1 5) (by rw [k2.2.2.2.1]; rfl) ?_
      refine And.intro (show vp_in (nI w) (kd true τ1 (c2+3)).2 by rw [k2.2.2.2.1]; exact vw) ?_
      refine grd (b := Nat.beq (kd true τ1 (c1+3)).1 5) (by rw [k1.2.2.2.1]; rfl) ?_
      refine And.intro (show vp_in (nI w) (kd true τ1 (c1+3)).2 by rw [k1.2.2.2.1]; exact vw) ?_
      generalize hτ2 : sI τ1 (c1+3) w (gI τ1 (c2+3) w) = τ2
      have q2 : cpS c1 σ τ2 := by rw [← hτ2]; exact q1.set (by omega)
      have l1 := h1.of q2.2.2
      have l2 := h2.of q2.2.2
      refine grd (b := isOb (kd true (sI τ1 (c1+3) (nI w).toNatClampNeg (gI τ1 (c2+3) (nI w).toNatClampNeg)) c1) _) (by rw [cw, hτ2, l1.1]; rfl) ?_
      refine grd (b := isOb (kd true (sI τ1 (c1+3) (nI w).toNatClampNeg (gI τ1 (c2+3) (nI w).toNatClampNeg)) c2) _) (by rw [cw, hτ2, l2.1]; rfl) ?_
      show P 46 [some (rf c1), some (rf c2), some (iv (nI w))] [iv (nI w), rw_ (gR true (sI τ1 (c1+3) (nI w).toNatClampNeg (gI τ1 (c2+3) (nI w).toNatClampNeg)) c2 4), iv (nI w), rw_ (gR true (sI τ1 (c1+3) (nI w).toNatClampNeg (gI τ1 (c2+3) (nI w).toNatClampNeg)) c1 4)] (sI τ1 (c1+3) (nI w).toNatClampNeg (gI τ1 (c2+3) (nI w).toNatClampNeg))
      rw [cw, hτ2, l1.2.2.2.2.2.2.2.2, l2.2.2.2.2.2.2.2.2]
      refine hP _ _ _ _ ?_
      refine grd (b := Nat.beq (kd true τ2 (c2+4)).1 5) (by rw [l2.2.2.2.2.1]; rfl) ?_
      refine And.intro (show vp_in (nI w) (kd true τ2 (c2+4)).2 by rw [l2.2.2.2.2.1]; exact vw) ?_
      refine grd (b := Nat.beq (kd true τ2 (c1+4)).1 5) (by rw [l1.2.2.2.2.1]; rfl) ?_
      refine And.intro (show vp_in (nI w) (kd true τ2 (c1+4)).2 by rw [l1.2.2.2.2.1]; exact vw) ?_
      show P 21 [some (rf c1), some (rf c2), some (iv (nI w + nI 1))] [] (sI τ2 (c1+4) (nI w).toNatClampNeg (gI τ2 (c2+4) (nI w).toNatClampNeg))
      rw [cw, nI_add]
      refine ih (w+1) _ (by omega) (q2.set (by omega)) ?_ (fun j hj => ?_) (fun j hj => ?_)
      · rw [gI_sI, if_neg (by omega), ← hτ2, gI_sI, if_neg (by omega), ← hτ1, gI_sI, if_neg (by omega)]; exact e0
      · rw [gI_sI, if_neg (by omega), ← hτ2, gI_sI, if_neg (by omega), ← hτ1, gI_sI, if_neg (by omega)]; exact e1 j hj
      · by_cases e : j = w
        · subst e
          refine ⟨?_, ?_, ?_⟩
          · rw [gI_sI, if_neg (by omega), ← hτ2, gI_sI, if_neg (by omega), ← hτ1, gI_sI, if_pos ⟨rfl, rfl⟩]
            exact keep2 τ hτ _ _ (by omega) (by omega)
          · rw [gI_sI, if_neg (by omega), ← hτ2, gI_sI, if_pos ⟨rfl, rfl⟩]
            exact keep2 τ1 q1 _ _ (by omega) (by omega)
          · rw [gI_sI, if_pos ⟨rfl, rfl⟩]
            exact keep2 τ2 q2 _ _ (by omega) (by omega)
        · obtain ⟨a1, a2, a3⟩ := e2 j (by omega)
          refine ⟨?_, ?_, ?_⟩
          · rw [gI_sI, if_neg (by omega), ← hτ2, gI_sI, if_neg (by omega), ← hτ1, gI_sI, if_neg (by omega)]; exact a1
          · rw [gI_sI, if_neg (by omega), ← hτ2, gI_sI, if_neg (by omega), ← hτ1, gI_sI, if_neg (by omega)]; exact a2
          · rw [gI_sI, if_neg (by omega), ← hτ2, gI_sI, if_neg (by omega), ← hτ1, gI_sI, if_neg (by omega)]; exact a3
  have strs : ∀ (m w : Nat) (τ : AS), w + m = 12 → cpS c1 σ τ → gI τ c1 0 = gI σ c2 0 → (∀ j, j < w → gI τ (c1+1) j = gI σ (c2+1) j) → P 6 [some (rf c1), some (rf c2), some (iv (nI w))] [] τ := by
    intro m
    induction m with
    | zero =>
      intro w τ hm hτ e0 e1
      refine hP _ _ _ _ (And.intro (fun _ => ?_) (fun q => absurd (nI_le (by omega) (by omega)) q))
      exact walk 6 0 τ (by omega) hτ e0 (fun j hj => e1 j (by omega)) (fun j hj => by omega)
    | succ m ih =>
      intro w τ hm hτ e0 e1
      have g1 := h1.of hτ.2.2
      have g2 := h2.of hτ.2.2
      have vw : vp_in (nI w) 12 := vinN (by omega) (by decide)
      have cw : (nI w).toNatClampNeg = w := clN (by omega)
      refine hP _ _ _ _ (And.intro (fun q => absurd q (nI_ge (by omega) (by omega))) (fun _ => ?_))
      refine grd (b := isOb (kd true τ c1) _) (by rw [g1.1]; rfl) ?_
      refine grd (b := isOb (kd true τ c2) _) (by rw [g2.1]; rfl) ?_
      show P 15 [some (rf c1), some (rf c2), some (iv (nI w))] [iv (nI w), rw_ (gR true τ c2 1), iv (nI w), rw_ (gR true τ c1 1)] τ
      rw [g1.2.2.2.2.2.1, g2.2.2.2.2.2.1]
      refine hP _ _ _ _ ?_
      refine grd (b := Nat.beq (kd true τ (c2+1)).1 5) (by rw [g2.2.1]; rfl) ?_
      refine And.intro (show vp_in (nI w) (kd true τ (c2+1)).2 by rw [g2.2.1]; exact vw) ?_
      refine grd (b := Nat.beq (kd true τ (c1+1)).1 5) (by rw [g1.2.1]; rfl) ?_
      refine And.intro (show vp_in (nI w) (kd true τ (c1+1)).2 by rw [g1.2.1]; exact vw) ?_
      show P 6 [some (rf c1), some (rf c2), some (iv (nI w + nI 1))] [] (sI τ (c1+1) (nI w).toNatClampNeg (gI τ (c2+1) (nI w).toNatClampNeg))
      rw [cw, nI_add]
      refine ih (w+1) _ (by omega) (hτ.set (by omega)) ?_ (fun j hj => ?_)
      · rw [gI_sI, if_neg (by omega)]; exact e0
      · rw [gI_sI]
        by_cases e : j = w
        · rw [if_pos ⟨rfl, e⟩, e]; exact keep2 τ hτ _ _ (by omega) (by omega)
        · rw [if_neg (fun z => e z.2)]; exact e1 j (by omega)
  refine hP _ _ _ _ ?_
  show P 2 [some (rf c1), some (rf c2), none] [rf c2, rf c1] σ
  refine hP _ _ _ _ ?_
  refine grd (b := isOb (kd true σ c2) _) (by rw [h2.1]; rfl) ?_
  show P 3 [some (rf c1), some (rf c2), none] [iv (gI σ c2 0), rf c1] σ
  refine hP _ _ _ _ ?_
  refine grd (b := isOb (kd true σ c1) _) (by rw [h1.1]; rfl) ?_
  exact strs 12 0 (sI σ c1 0 (gI σ c2 0)) (by omega) (cpS.set ⟨fun _ _ _ => rfl, fun _ _ => rfl, rfl⟩ (by omega)) (by rw [gI_sI, if_pos ⟨rfl, rfl⟩]) (fun j hj => by omega)
end KP_
