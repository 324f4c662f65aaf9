section MX_
variable (G : CX) (g : GX) (l : Launch) (d : Nat) (σ : AS)
theorem allR_iff (p : Nat → Bool) : ∀ (m j : Nat), allR p m j = true ↔ ∀ i, j ≤ i → i < j + m → p i = true
  | 0, j => ⟨fun _ i h1 h2 => by omega, fun _ => rfl⟩
  | m+1, j => by
    unfold allR
    rw [Bool.and_eq_true, allR_iff p m (j+1)]
    constructor
    · intro h i h1 h2
      by_cases e : i = j
      · rw [e]; exact h.1
      · exact h.2 i (by omega) (by omega)
    · intro h
      exact ⟨h j (by omega) (by omega), fun i h1 h2 => h i (by omega) (by omega)⟩
def onK (T : Twn) (w : Nat) : Nat := 2 + Tns T + 4 * w
def onW (T : Twn) (tp : List Nat) (w : Nat) : Nat × Nat × Nat := (tp[onK T w]!, tp[onK T w + 1]!, 256 * tp[onK T w + 2]! + tp[onK T w + 3]!)
/-- the state that an image tells -/
def onN (T : Twn) (tp : List Nat) : Nws := (256 * tp[0]! + tp[1]!, fun s => tp[2 + s]!, onW T tp)
def onS1 (T : Twn) (tp : List Nat) (s : Nat) : Bool := decide (tp[2 + s]! < Trd T s)
def onW1 (T : Twn) (tp : List Nat) (w : Nat) : Bool := decide (((onW T tp w).1 = Twa T w ∧ (onW T tp w).2.1 = Twb T w) ∨ ((onW T tp w).1 = Twb T w ∧ (onW T tp w).2.1 = Twa T w)) && decide ((onW T tp w).2.2 ≤ 9999)
abbrev onH (T : Twn) (tp : List Nat) : Prop := tp.length = onK T (Tnw T) + 1 ∧ tp[tp.length - 1]! = chk (tp.take (tp.length - 1)) ∧ 256 * tp[0]! + tp[1]! ≤ 9999
def okOn (T : Twn) (tp : List Nat) : Bool := decide (onH T tp) && (allR (onS1 T tp) (Tns T) 0 && allR (onW1 T tp) (Tnw T) 0)
theorem okOn_NOK {T : Twn} {tp : List Nat} (h : okOn T tp = true) : NOK T (onN T tp) := by
  unfold okOn at h
  rw [Bool.and_eq_true, Bool.and_eq_true, decide_eq_true_eq, allR_iff, allR_iff] at h
  obtain ⟨h1, h2, h3⟩ := h
  refine ⟨h1.2.2, fun s hs => of_decide_eq_true (h2 s (by omega) (by omega)), fun w hw => ?_⟩
  have := h3 w (by omega) (by omega)
  unfold onW1 at this
  rw [Bool.and_eq_true, decide_eq_true_eq, decide_eq_true_eq] at this
  exact this
set_option maxHeartbeats 2000000 in
theorem c_isTold (T : Twn) (h : MTn T σ) (hT : TOK T) (tp : List Nat) (hb : MTb tp σ) (x : Int32) (hx : x = nI tp.length) : MC G g l (d+2) mX6_isTold [tM, iv x] σ (fun r t => r = some (iv (bI (okOn T tp))) ∧ t = σ) := by
  subst hx
  have hl := hb.1
  have h12 := hT.1
  refine MC1 tX6_isTold [41, 45, 65, 111, 125, 127, 128, 148] rfl okX6_isTold rfl rfl rfl rfl (fun P hP => hP _ _ _ _ ?_)
  have no41 : ∀ ls, okOn T tp = false → P 41 ls [] σ := fun ls e => hP _ _ _ _ ⟨nar0, by rw [e]; rfl, rfl⟩
  have no148 : ∀ ls, okOn T tp = false → P 148 ls [] σ := fun ls e => hP _ _ _ _ ⟨nar0, by rw [e]; rfl, rfl⟩
  have nd : ¬ onH T tp → okOn T tp = false := fun e => by unfold okOn; rw [decide_eq_false e]; rfl
  refine mcall (c_streetMany G g l d σ) (fun r s3 h9 => ?_)
  obtain ⟨rfl, rfl⟩ := h9
  refine mcall (c_walkerMany G g l d s3) (fun r s4 h9 => ?_)
  obtain ⟨rfl, rfl⟩ := h9
  rw [h.2.1, h.2.2.1]
  have e0 : nI 2 + nI (Tns T) + nI 4 * nI (Tnw T) + nI 1 = nI (onK T (Tnw T) + 1) := by rw [nI_add, pk_mul, nI_add, nI_add]; rfl
  have kb : onK T (Tnw T) ≤ 38 := by unfold onK; omega
  refine And.intro (fun q => no41 _ (nd ?_)) (fun q => ?_)
  · have q : ¬ nI tp.length = nI 2 + nI (Tns T) + nI 4 * nI (Tnw T) + nI 1 := q
    rw [e0, nI_eq (by omega) (by omega)] at q
    exact fun e => q e.1
  have q : nI tp.length = nI 2 + nI (Tns T) + nI 4 * nI (Tnw T) + nI 1 := q
  rw [e0, nI_eq (by omega) (by omega)] at q
  have kc : onK T (Tnw T) = 2 + Tns T + 4 * Tnw T := rfl
  have e1 : nI tp.length - nI 1 = nI (tp.length - 1) := nI_s1 _ _ (by omega)
  have z1 := hb.at (k := tp.length - 1) (by omega)
  have z2 := hb.at (k := 0) (by omega)
  have z3 := hb.at (k := 1) (by omega)
  refine And.intro (show vp_in (nI tp.length - nI 1) 1600 from by rw [e1]; exact vinN (by omega) (by decide)) ?_
  refine mcall (c_checked201 G g l d s4 tp hl hb.2 _ (tp.length - 1) e1 (by omega)) (fun r s5 h9 => ?_)
  obtain ⟨rfl, rfl⟩ := h9
  have hc := chk_lt (tp.take (tp.length - 1))
  refine And.intro (fun q1 => no41 _ (nd ?_)) (fun q1 => ?_)
  · have q1 : ¬ gI s5 201 (nI tp.length - nI 1).toNatClampNeg = nI (chk (tp.take (tp.length - 1))) := q1
    rw [e1, clN (by omega), z1.1, nI_eq (by omega) (by omega)] at q1
    exact fun e => q1 e.2.1
  have q1 : gI s5 201 (nI tp.length - nI 1).toNatClampNeg = nI (chk (tp.take (tp.length - 1))) := q1
  rw [e1, clN (by omega), z1.1, nI_eq (by omega) (by omega)] at q1
  have e2 : nI 256 * gI s5 201 0 + gI s5 201 1 = nI (256 * tp[0]! + tp[1]!) := by rw [z2.1, z3.1, pk_mul, nI_add]
  refine And.intro (vin 0 1600 rfl rfl) (And.intro (vin 1 1600 rfl rfl) (And.intro (fun q2 => ?_) (fun q2 => no41 _ (nd ?_))))
  · have q2 : nI 256 * gI s5 201 0 + gI s5 201 1 ≤ nI 9999 := q2
    rw [e2, nI_leI (by omega) (by omega)] at q2
    have hH : onH T tp := ⟨q, q1, q2⟩
    have e3 : nI 2 + nI (Tns T) = nI (2 + Tns T) := nI_add _ _
    have ok : okOn T tp = (allR (onS1 T tp) (Tns T) 0 && allR (onW1 T tp) (Tnw T) 0) := by unfold okOn; rw [decide_eq_true hH]; rfl
    have key2 : ∀ (m j : Nat) (y4 y5 y6 y7 : Option AV), j + m = Tnw T → okOn T tp = allR (onW1 T tp) m j → P 65 [some tM, some (iv (nI tp.length)), some (iv (nI 2 + nI (Tns T))), some (iv (nI j)), y4, y5, y6, y7] [] s5 := by
      intro m
      induction m with
      | zero =>
        intro j y4 y5 y6 y7 hm he
        refine hP _ _ _ _ ?_
        refine mcall (c_walkerMany G g l d s5) (fun r s6 h9 => ?_)
        obtain ⟨rfl, rfl⟩ := h9
        have hj : j = Tnw T := by omega
        subst hj
        exact And.intro (fun _ => ⟨nar1, by rw [he]; rfl, rfl⟩) (fun q => absurd (by rw [h.2.2.1]; exact Int32.le_refl _) q)
      | succ m ih =>
        intro j y4 y5 y6 y7 hm he
        have hj : j < Tnw T := by omega
        refine hP _ _ _ _ ?_
        refine mcall (c_walkerMany G g l d s5) (fun r s6 h9 => ?_)
        obtain ⟨rfl, rfl⟩ := h9
        rw [h.2.2.1]
        have ek : nI 2 + nI (Tns T) + nI 4 * nI j = nI (onK T j) := by rw [e3, pk_mul, nI_add]; rfl
        have kj : onK T j = 2 + Tns T + 4 * j := rfl
        have ek1 : nI 2 + nI (Tns T) + nI 4 * nI j + nI 1 = nI (onK T j + 1) := by rw [ek, nI_add]
        have ek2 : nI 2 + nI (Tns T) + nI 4 * nI j + nI 2 = nI (onK T j + 2) := by rw [ek, nI_add]
        have ek3 : nI 2 + nI (Tns T) + nI 4 * nI j + nI 3 = nI (onK T j + 3) := by rw [ek, nI_add]
        have a0 := hb.at (k := onK T j) (by omega)
        have a1 := hb.at (k := onK T j + 1) (by omega)
        have a2 := hb.at (k := onK T j + 2) (by omega)
        have a3 := hb.at (k := onK T j + 3) (by omega)
        have r0 : gI s6 201 (nI 2 + nI (Tns T) + nI 4 * nI j).toNatClampNeg = nI (onW T tp j).1 := by rw [ek, clN (by omega)]; exact a0.1
        have r1 : gI s6 201 (nI 2 + nI (Tns T) + nI 4 * nI j + nI 1).toNatClampNeg = nI (onW T tp j).2.1 := by rw [ek1, clN (by omega)]; exact a1.1
        have r2 : nI 256 * gI s6 201 (nI 2 + nI (Tns T) + nI 4 * nI j + nI 2).toNatClampNeg + gI s6 201 (nI 2 + nI (Tns T) + nI 4 * nI j + nI 3).toNatClampNeg = nI (onW T tp j).2.2 := by rw [ek2, ek3, clN (by omega), clN (by omega), a2.1, a3.1, pk_mul, nI_add]; rfl
        have b0 : (onW T tp j).1 < 256 := a0.2
        have b1 : (onW T tp j).2.1 < 256 := a1.2
        have b2 : (onW T tp j).2.2 < 65536 := by show 256 * tp[onK T j + 2]! + tp[onK T j + 3]! < 65536; omega
        have v0 : vp_in (nI 2 + nI (Tns T) + nI 4 * nI j) 1600 := by rw [ek]; exact vinN (by omega) (by decide)
        have v1 : vp_in (nI 2 + nI (Tns T) + nI 4 * nI j + nI 1) 1600 := by rw [ek1]; exact vinN (by omega) (by decide)
        have v2 : vp_in (nI 2 + nI (Tns T) + nI 4 * nI j + nI 2) 1600 := by rw [ek2]; exact vinN (by omega) (by decide)
        have v3 : vp_in (nI 2 + nI (Tns T) + nI 4 * nI j + nI 3) 1600 := by rw [ek3]; exact vinN (by omega) (by decide)
        have wx1 : nI 18 + nI 3 * nI j + nI 1 = nI (18 + 3 * j + 1) := ix3 18 3 j 1
        have wx2 : nI 18 + nI 3 * nI j + nI 2 = nI (18 + 3 * j + 2) := ix3 18 3 j 2
        have hw := h.2.2.2.2.1 j hj
        have tw := (hT.2.2 j hj).2
        have g1 : gI s6 223 (nI 18 + nI 3 * nI j + nI 1).toNatClampNeg = nI (Twa T j) := by rw [wx1, clN (by omega)]; exact hw.2.1
        have g2 : gI s6 223 (nI 18 + nI 3 * nI j + nI 2).toNatClampNeg = nI (Twb T j) := by rw [wx2, clN (by omega)]; exact hw.2.2
        refine And.intro (fun q => absurd q (nI_ge (by omega) (by omega))) (fun _ => And.intro (show vp_in (nI 18 + nI 3 * nI j + nI 1) 36 from by rw [wx1]; exact vinN (by omega) (by decide)) (And.intro (show vp_in (nI 18 + nI 3 * nI j + nI 2) 36 from by rw [wx2]; exact vinN (by omega) (by decide)) ?_))
        have he2 : okOn T tp = (onW1 T tp j && allR (onW1 T tp) m (j+1)) := he
        have go : ∀ bb, bb = decide (((onW T tp j).1 = Twa T j ∧ (onW T tp j).2.1 = Twb T j) ∨ ((onW T tp j).1 = Twb T j ∧ (onW T tp j).2.1 = Twa T j)) → P 128 [some tM, some (iv (nI tp.length)), some (iv (nI 2 + nI (Tns T))), some (iv (nI j)), some (iv (nI 2 + nI (Tns T) + nI 4 * nI j)), some (iv (gI s6 223 (nI 18 + nI 3 * nI j + nI 1).toNatClampNeg)), some (iv (gI s6 223 (nI 18 + nI 3 * nI j + nI 2).toNatClampNeg)), y7] [iv (bI bb)] s6 := by
          intro bb hbb
          refine hP _ _ _ _ ?_
          cases bb with
          | false =>
            refine And.intro (fun _ => no148 _ ?_) (fun q => absurd rfl q)
            rw [he2]
            unfold onW1
            rw [← hbb]
            rfl
          | true =>
            refine And.intro (fun q => absurd q (by decide)) (fun _ => And.intro v2 (And.intro v3 (And.intro (fun q => ?_) (fun q => no148 _ ?_))))
            · have q : nI 256 * gI s6 201 (nI 2 + nI (Tns T) + nI 4 * nI j + nI 2).toNatClampNeg + gI s6 201 (nI 2 + nI (Tns T) + nI 4 * nI j + nI 3).toNatClampNeg ≤ nI 9999 := q
              rw [r2, nI_leI (by omega) (by omega)] at q
              show P 65 [some tM, some (iv (nI tp.length)), some (iv (nI 2 + nI (Tns T))), some (iv (nI j + nI 1)), _, _, _, _] [] s6
              rw [nI_add j 1]
              refine ih (j+1) _ _ _ _ (by omega) ?_
              rw [he2]
              unfold onW1
              rw [← hbb, decide_eq_true q]
              rfl
            · have q : ¬ nI 256 * gI s6 201 (nI 2 + nI (Tns T) + nI 4 * nI j + nI 2).toNatClampNeg + gI s6 201 (nI 2 + nI (Tns T) + nI 4 * nI j + nI 3).toNatClampNeg ≤ nI 9999 := q
              rw [r2, nI_leI (by omega) (by omega)] at q
              rw [he2]
              unfold onW1
              rw [← hbb, decide_eq_false q]
              rfl
        have p125 : (((onW T tp j).1 = Twa T j ∧ (onW T tp j).2.1 = Twb T j) ∨ ((onW T tp j).1 = Twb T j ∧ (onW T tp j).2.1 = Twa T j)) → P 125 [some tM, some (iv (nI tp.length)), some (iv (nI 2 + nI (Tns T))), some (iv (nI j)), some (iv (nI 2 + nI (Tns T) + nI 4 * nI j)), some (iv (gI s6 223 (nI 18 + nI 3 * nI j + nI 1).toNatClampNeg)), some (iv (gI s6 223 (nI 18 + nI 3 * nI j + nI 2).toNatClampNeg)), y7] [] s6 := fun e => hP _ _ _ _ (go true (decide_eq_true e).symm)
        have p127 : ¬ (((onW T tp j).1 = Twa T j ∧ (onW T tp j).2.1 = Twb T j) ∨ ((onW T tp j).1 = Twb T j ∧ (onW T tp j).2.1 = Twa T j)) → P 127 [some tM, some (iv (nI tp.length)), some (iv (nI 2 + nI (Tns T))), some (iv (nI j)), some (iv (nI 2 + nI (Tns T) + nI 4 * nI j)), some (iv (gI s6 223 (nI 18 + nI 3 * nI j + nI 1).toNatClampNeg)), some (iv (gI s6 223 (nI 18 + nI 3 * nI j + nI 2).toNatClampNeg)), y7] [] s6 := fun e => hP _ _ _ _ (go false (decide_eq_false e).symm)
        have i1 : gI s6 201 (nI 2 + nI (Tns T) + nI 4 * nI j).toNatClampNeg = gI s6 223 (nI 18 + nI 3 * nI j + nI 1).toNatClampNeg ↔ (onW T tp j).1 = Twa T j := by rw [r0, g1, nI_eq (by omega) (by omega)]
        have i2 : gI s6 201 (nI 2 + nI (Tns T) + nI 4 * nI j + nI 1).toNatClampNeg = gI s6 223 (nI 18 + nI 3 * nI j + nI 2).toNatClampNeg ↔ (onW T tp j).2.1 = Twb T j := by rw [r1, g2, nI_eq (by omega) (by omega)]
        have i3 : gI s6 201 (nI 2 + nI (Tns T) + nI 4 * nI j).toNatClampNeg = gI s6 223 (nI 18 + nI 3 * nI j + nI 2).toNatClampNeg ↔ (onW T tp j).1 = Twb T j := by rw [r0, g2, nI_eq (by omega) (by omega)]
        have i4 : gI s6 201 (nI 2 + nI (Tns T) + nI 4 * nI j + nI 1).toNatClampNeg = gI s6 223 (nI 18 + nI 3 * nI j + nI 1).toNatClampNeg ↔ (onW T tp j).2.1 = Twa T j := by rw [r1, g1, nI_eq (by omega) (by omega)]
        have p111 : ¬ ((onW T tp j).1 = Twa T j ∧ (onW T tp j).2.1 = Twb T j) → P 111 [some tM, some (iv (nI tp.length)), some (iv (nI 2 + nI (Tns T))), some (iv (nI j)), some (iv (nI 2 + nI (Tns T) + nI 4 * nI j)), some (iv (gI s6 223 (nI 18 + nI 3 * nI j + nI 1).toNatClampNeg)), some (iv (gI s6 223 (nI 18 + nI 3 * nI j + nI 2).toNatClampNeg)), y7] [] s6 := by
          intro e
          refine hP _ _ _ _ (And.intro v0 (And.intro (fun q => p127 ?_) (fun q => And.intro v1 (And.intro (fun q1 => p127 ?_) (fun q1 => p125 ?_)))))
          · exact fun e2 => e2.elim e (fun e3 => q (i3.mpr e3.1))
          · exact fun e2 => e2.elim e (fun e3 => q1 (i4.mpr e3.2))
          · exact Or.inr ⟨i3.mp q, i4.mp q1⟩
        refine And.intro v0 (And.intro (fun q => p111 (fun e => q (i1.mpr e.1))) (fun q => And.intro v1 (And.intro (fun q1 => p125 (Or.inl ⟨i1.mp q, i2.mp q1⟩)) (fun q1 => p111 (fun e => q1 (i2.mpr e.2))))))
    have key1 : ∀ (m j : Nat), j + m = Tns T → okOn T tp = (allR (onS1 T tp) m j && allR (onW1 T tp) (Tnw T) 0) → P 45 [some tM, some (iv (nI tp.length)), some (iv (nI 2 + nI (Tns T))), some (iv (nI j)), none, none, none, none] [] s5 := by
      intro m
      induction m with
      | zero =>
        intro j hm he
        refine hP _ _ _ _ ?_
        refine mcall (c_streetMany G g l d s5) (fun r s6 h9 => ?_)
        obtain ⟨rfl, rfl⟩ := h9
        have hj : j = Tns T := by omega
        subst hj
        refine And.intro (fun _ => ?_) (fun q => absurd (by rw [h.2.1]; exact Int32.le_refl _) q)
        exact key2 (Tnw T) 0 none none none none (by omega) (by rw [he]; rfl)
      | succ m ih =>
        intro j hm he
        have hj : j < Tns T := by omega
        have hr := (hT.2.1 j hj).2.2.2.2.1
        have zj := hb.at (k := 2 + j) (by omega)
        refine hP _ _ _ _ ?_
        refine mcall (c_streetMany G g l d s5) (fun r s6 h9 => ?_)
        obtain ⟨rfl, rfl⟩ := h9
        rw [h.2.1]
        have e4 : nI 2 + nI j = nI (2 + j) := nI_add _ _
        refine And.intro (fun q => absurd q (nI_ge (by omega) (by omega))) (fun _ => And.intro (show vp_in (nI 2 + nI j) 1600 from by rw [e4]; exact vinN (by omega) (by decide)) ?_)
        refine mcall (c_roundOf G g l d s6 T h _ j rfl hj hT) (fun r s7 h9 => ?_)
        obtain ⟨rfl, rfl⟩ := h9
        refine And.intro (fun q => ?_) (fun q => ⟨nar0, ?_, rfl⟩)
        · have q : gI s7 201 (nI 2 + nI j).toNatClampNeg < nI (Trd T j) := q
          rw [e4, clN (by omega), zj.1, nI_ltI (by omega) (by omega)] at q
          show P 45 [some tM, some (iv (nI tp.length)), some (iv (nI 2 + nI (Tns T))), some (iv (nI j + nI 1)), none, none, none, none] [] s7
          rw [nI_add j 1]
          refine ih (j+1) (by omega) ?_
          rw [he]
          show ((onS1 T tp j && _) && _) = _
          unfold onS1
          rw [decide_eq_true q]
          rfl
        · have q : ¬ gI s7 201 (nI 2 + nI j).toNatClampNeg < nI (Trd T j) := q
          rw [e4, clN (by omega), zj.1, nI_ltI (by omega) (by omega)] at q
          rw [he]
          show _ = some (iv (bI ((onS1 T tp j && _) && _)))
          unfold onS1
          rw [decide_eq_false q]
          rfl
    exact key1 (Tns T) 0 (by omega) ok
  · have q2 : ¬ nI 256 * gI s5 201 0 + gI s5 201 1 ≤ nI 9999 := q2
    rw [e2, nI_leI (by omega) (by omega)] at q2
    exact fun e => q2 e.2.2
end MX_
