section ON_
variable (G : CX) (g : GX) (l : Launch) (d : Nat) (σ : AS)
set_option maxHeartbeats 2000000 in
theorem x_isImage (T : Twn) (h : XTn T σ) (hT : TOK T) (tp : List Nat) (hb : XTb tp σ) (x : Int32) (hx : x = nI tp.length) : MC G g l (d+5) mX0_isImage [tX, iv x] σ (fun r t => r = some (iv (bI (okOn T tp))) ∧ t = σ) := by
  subst hx
  have hl := hb.1
  have h12 := hT.1
  have bA : ∀ k, k < tp.length → tp[k]! < 256 := fun k hk => (hb.at hk).2
  refine MC1 tX0_isImage [34, 38, 50, 59, 72, 75, 77, 91, 105, 107, 108, 126] rfl okX0_isImage rfl rfl rfl rfl (fun P hP => ?_)
  have no0 : okOn T tp = false → P 34 [some tX, some (iv (nI tp.length)), none, none, none, none] [] σ := fun e => hP _ _ _ _ ⟨nar0, by rw [e]; rfl, rfl⟩
  refine hP _ _ _ _ ?_
  refine mcall (x_streetMany G g l (d+2) σ T h) (fun r s1 h9 => ?_)
  obtain ⟨rfl, rfl⟩ := h9
  refine mcall (x_walkerMany G g l (d+2) s1 T h) (fun r s2 h9 => ?_)
  obtain ⟨rfl, rfl⟩ := h9
  have e3 : nI 3 + nI (Tns T) + nI 4 * nI (Tnw T) = nI (3 + Tns T + 4 * Tnw T) := by rw [pk_mul, nI_add, nI_add]
  refine And.intro (fun q => no0 ?_) (fun q => ?_)
  · have q : ¬ nI tp.length = nI 3 + nI (Tns T) + nI 4 * nI (Tnw T) := q
    rw [e3, nI_eq (by omega) (by omega)] at q
    unfold okOn
    rw [decide_eq_false (fun z => q (by have := z.1; unfold onK at this; omega))]
    rfl
  have q : nI tp.length = nI 3 + nI (Tns T) + nI 4 * nI (Tnw T) := q
  rw [e3, nI_eq (by omega) (by omega)] at q
  have hle : tp.length = onK T (Tnw T) + 1 := by unfold onK; omega
  have em : nI tp.length - nI 1 = nI (tp.length - 1) := nI_s1 _ _ (by omega)
  refine mcall (x_byteAt0 G g l (d+3) s2 tp hb _ (tp.length - 1) em (by omega)) (fun r s3 h9 => ?_)
  obtain ⟨rfl, rfl⟩ := h9
  refine mcall (x_check8 G g l (d+3) s3 tp hb _ (tp.length - 1) em (by omega)) (fun r s4 h9 => ?_)
  obtain ⟨rfl, rfl⟩ := h9
  have hc : chk (tp.take (tp.length - 1)) < 251 := by
    have hk : ∀ (l : List Nat) (c : Nat), c < 251 → l.foldl chk1 c < 251 := by
      intro l
      induction l with
      | nil => intro c hc; exact hc
      | cons b l ih => intro c _; exact ih _ (Nat.mod_lt _ (by omega))
    exact hk _ _ (by omega)
  have bl := bA (tp.length - 1) (by omega)
  refine And.intro (fun q2 => no0 ?_) (fun q2 => ?_)
  · have q2 : ¬ nI tp[tp.length - 1]! = nI (chk (tp.take (tp.length - 1))) := q2
    rw [nI_eq (by omega) (by omega)] at q2
    unfold okOn
    rw [decide_eq_false (fun z => q2 z.2.1)]
    rfl
  have q2 : nI tp[tp.length - 1]! = nI (chk (tp.take (tp.length - 1))) := q2
  rw [nI_eq (by omega) (by omega)] at q2
  refine mcall (x_byteAt0 G g l (d+3) s4 tp hb _ 0 rfl (by omega)) (fun r s5 h9 => ?_)
  obtain ⟨rfl, rfl⟩ := h9
  refine mcall (x_byteAt0 G g l (d+3) s5 tp hb _ 1 rfl (by omega)) (fun r s6 h9 => ?_)
  obtain ⟨rfl, rfl⟩ := h9
  have b0 := bA 0 (by omega)
  have b1 := bA 1 (by omega)
  refine And.intro (fun q3 => ?_) (fun q3 => no0 ?_)
  · have q3 : nI tp[0]! <<< (nI 8 &&& 31) ||| nI tp[1]! ≤ nI 9999 := q3
    rw [or8 b0 b1, nI_leI (by omega) (by omega)] at q3
    have hH : onH T tp := ⟨hle, q2, q3⟩
    have eo : okOn T tp = (allR (onS1 T tp) (Tns T) 0 && allR (onW1 T tp) (Tnw T) 0) := by unfold okOn; rw [decide_eq_true hH]; rfl
    have wk : ∀ (m w : Nat) (o3 o4 o5 : Option AV), w + m = Tnw T → okOn T tp = allR (onW1 T tp) m w → P 59 [some tX, some (iv (nI tp.length)), some (iv (nI w)), o3, o4, o5] [] s6 := by
      intro m
      induction m with
      | zero =>
        intro w o3 o4 o5 hm he
        refine hP _ _ _ _ ?_
        refine mcall (x_walkerMany G g l (d+2) s6 T h) (fun r s7 h9 => ?_)
        obtain ⟨rfl, rfl⟩ := h9
        exact And.intro (fun _ => ⟨nar1, by rw [he]; rfl, rfl⟩) (fun q => absurd (nI_le (by omega) (by omega)) q)
      | succ m ih =>
        intro w o3 o4 o5 hm he
        have hw : w < Tnw T := by omega
        have he : okOn T tp = (onW1 T tp w && allR (onW1 T tp) m (w+1)) := he
        have hkw : onK T w + 4 < tp.length := by rw [hle]; unfold onK; omega
        have k0 := bA (onK T w) (by omega)
        have k1 := bA (onK T w + 1) (by omega)
        have k2 := bA (onK T w + 2) (by omega)
        have k3 := bA (onK T w + 3) (by omega)
        have hTw := hT.2.2 w hw
        refine hP _ _ _ _ ?_
        refine mcall (x_walkerMany G g l (d+2) s6 T h) (fun r s7 h9 => ?_)
        obtain ⟨rfl, rfl⟩ := h9
        refine And.intro (fun q => absurd q (nI_ge (by omega) (by omega))) (fun _ => ?_)
        refine mcall (x_streetMany G g l (d+2) s7 T h) (fun r s8 h9 => ?_)
        obtain ⟨rfl, rfl⟩ := h9
        show P 72 [some tX, some (iv (nI tp.length)), some (iv (nI w)), some (iv (nI 2 + nI (Tns T) + nI 4 * nI w)), o4, o5] [] s8
        rw [show nI 2 + nI (Tns T) + nI 4 * nI w = nI (onK T w) from by rw [pk_mul, nI_add, nI_add]; rfl]
        refine hP _ _ _ _ (hP _ _ _ _ (at_walker T rfl h rfl rfl hw rfl (fun c hc => ?_)))
        have kc : isOb (kd true s8 c) [14] = true := by rw [hc.1]; rfl
        show P 77 [some tX, some (iv (nI tp.length)), some (iv (nI w)), some (iv (nI (onK T w))), some (rf c), o5] [] s8
        have bad : ∀ o5, onW1 T tp w = false → P 126 [some tX, some (iv (nI tp.length)), some (iv (nI w)), some (iv (nI (onK T w))), some (rf c), o5] [] s8 := fun o5 e => hP _ _ _ _ ⟨nar0, by rw [he, e]; rfl, rfl⟩
        have no2 : (¬ (((onW T tp w).1 = Twa T w ∧ (onW T tp w).2.1 = Twb T w) ∨ ((onW T tp w).1 = Twb T w ∧ (onW T tp w).2.1 = Twa T w))) → P 107 [some tX, some (iv (nI tp.length)), some (iv (nI w)), some (iv (nI (onK T w))), some (rf c), o5] [] s8 := by
          intro z
          refine hP _ _ _ _ ?_
          show P 108 [some tX, some (iv (nI tp.length)), some (iv (nI w)), some (iv (nI (onK T w))), some (rf c), o5] [iv (nI 0)] s8
          refine hP _ _ _ _ (And.intro (fun _ => bad _ (by unfold onW1; rw [decide_eq_false z]; rfl)) (fun q => absurd rfl q))
        have yes2 : (((onW T tp w).1 = Twa T w ∧ (onW T tp w).2.1 = Twb T w) ∨ ((onW T tp w).1 = Twb T w ∧ (onW T tp w).2.1 = Twa T w)) → P 105 [some tX, some (iv (nI tp.length)), some (iv (nI w)), some (iv (nI (onK T w))), some (rf c), o5] [] s8 := by
          intro z
          refine hP _ _ _ _ ?_
          show P 108 [some tX, some (iv (nI tp.length)), some (iv (nI w)), some (iv (nI (onK T w))), some (rf c), o5] [iv (nI 1)] s8
          refine hP _ _ _ _ (And.intro (fun q => absurd q (by decide)) (fun _ => ?_))
          refine mcall (x_byteAt0 G g l (d+3) s8 tp hb _ (onK T w + 2) (nI_add _ _) (by omega)) (fun r s9 h9 => ?_)
          obtain ⟨rfl, rfl⟩ := h9
          refine mcall (x_byteAt0 G g l (d+3) s9 tp hb _ (onK T w + 3) (nI_add _ _) (by omega)) (fun r s9 h9 => ?_)
          obtain ⟨rfl, rfl⟩ := h9
          refine And.intro (fun q9 => ?_) (fun q9 => ?_)
          · have q9 : nI tp[onK T w + 2]! <<< (nI 8 &&& 31) ||| nI tp[onK T w + 3]! ≤ nI 9999 := q9
            rw [or8 k2 k3, nI_leI (by omega) (by omega)] at q9
            show P 59 [some tX, some (iv (nI tp.length)), some (iv (nI w + nI 1)), some (iv (nI (onK T w))), some (rf c), some (iv (nI 1))] [] s9
            rw [nI_add]
            exact ih (w+1) _ _ _ (by omega) (by rw [he, show onW1 T tp w = true from by unfold onW1; rw [decide_eq_true z]; exact decide_eq_true q9]; rfl)
          · have q9 : ¬ nI tp[onK T w + 2]! <<< (nI 8 &&& 31) ||| nI tp[onK T w + 3]! ≤ nI 9999 := q9
            rw [or8 k2 k3, nI_leI (by omega) (by omega)] at q9
            exact bad _ (by unfold onW1; rw [decide_eq_true z]; exact decide_eq_false q9)
        have at91 : ¬ ((onW T tp w).1 = Twa T w ∧ (onW T tp w).2.1 = Twb T w) → P 91 [some tX, some (iv (nI tp.length)), some (iv (nI w)), some (iv (nI (onK T w))), some (rf c), o5] [] s8 := by
          intro z
          refine hP _ _ _ _ ?_
          refine mcall (x_byteAt0 G g l (d+3) s8 tp hb _ (onK T w) rfl (by omega)) (fun r s9 h9 => ?_)
          obtain ⟨rfl, rfl⟩ := h9
          refine grd (b := isOb (kd true s9 c) _) (by rw [hc.1]; rfl) ?_
          refine And.intro (fun y => ?_) (fun y => ?_)
          · have y : ¬ nI tp[onK T w]! = gI s9 c 3 := y
            rw [hc.2.2.2.1, nI_eq (by omega) (by omega)] at y
            exact no2 (fun e => by rcases e with e | e; exact z e; exact y e.1)
          · have yy : nI tp[onK T w]! = gI s9 c 3 := y
            rw [hc.2.2.2.1, nI_eq (by omega) (by omega)] at yy
            refine mcall (x_byteAt0 G g l (d+3) s9 tp hb _ (onK T w + 1) (nI_add _ _) (by omega)) (fun r s9 h9 => ?_)
            obtain ⟨rfl, rfl⟩ := h9
            refine grd (b := isOb (kd true s9 c) _) (by rw [hc.1]; rfl) ?_
            refine And.intro (fun y2 => ?_) (fun y2 => ?_)
            · have y2 : ¬ nI tp[onK T w + 1]! = gI s9 c 2 := y2
              rw [hc.2.2.1, nI_eq (by omega) (by omega)] at y2
              exact no2 (fun e => by rcases e with e | e; exact z e; exact y2 e.2)
            · have y2 : nI tp[onK T w + 1]! = gI s9 c 2 := y2
              rw [hc.2.2.1, nI_eq (by omega) (by omega)] at y2
              exact yes2 (Or.inr ⟨yy, y2⟩)
        refine hP _ _ _ _ ?_
        refine mcall (x_byteAt0 G g l (d+3) s8 tp hb _ (onK T w) rfl (by omega)) (fun r s9 h9 => ?_)
        obtain ⟨rfl, rfl⟩ := h9
        refine grd (b := isOb (kd true s9 c) _) (by rw [hc.1]; rfl) ?_
        refine And.intro (fun y => ?_) (fun y => ?_)
        · have y : ¬ nI tp[onK T w]! = gI s9 c 2 := y
          rw [hc.2.2.1, nI_eq (by omega) (by omega)] at y
          exact at91 (fun e => y e.1)
        · have yy : nI tp[onK T w]! = gI s9 c 2 := y
          rw [hc.2.2.1, nI_eq (by omega) (by omega)] at yy
          refine mcall (x_byteAt0 G g l (d+3) s9 tp hb _ (onK T w + 1) (nI_add _ _) (by omega)) (fun r s9 h9 => ?_)
          obtain ⟨rfl, rfl⟩ := h9
          refine grd (b := isOb (kd true s9 c) _) (by rw [hc.1]; rfl) ?_
          refine And.intro (fun y2 => ?_) (fun y2 => ?_)
          · have y2 : nI tp[onK T w + 1]! = gI s9 c 3 := y2
            rw [hc.2.2.2.1, nI_eq (by omega) (by omega)] at y2
            exact yes2 (Or.inl ⟨yy, y2⟩)
          · have y2 : ¬ nI tp[onK T w + 1]! = gI s9 c 3 := y2
            rw [hc.2.2.2.1, nI_eq (by omega) (by omega)] at y2
            exact at91 (fun e => y2 e.2)
    have st : ∀ (m s : Nat), s + m = Tns T → okOn T tp = (allR (onS1 T tp) m s && allR (onW1 T tp) (Tnw T) 0) → P 38 [some tX, some (iv (nI tp.length)), some (iv (nI s)), none, none, none] [] s6 := by
      intro m
      induction m with
      | zero =>
        intro s hm he
        refine hP _ _ _ _ ?_
        refine mcall (x_streetMany G g l (d+2) s6 T h) (fun r s7 h9 => ?_)
        obtain ⟨rfl, rfl⟩ := h9
        refine And.intro (fun _ => ?_) (fun q => absurd (nI_le (by omega) (by omega)) q)
        exact wk (Tnw T) 0 _ _ _ (by omega) he
      | succ m ih =>
        intro s hm he
        have hs : s < Tns T := by omega
        have he : okOn T tp = ((onS1 T tp s && allR (onS1 T tp) m (s+1)) && allR (onW1 T tp) (Tnw T) 0) := he
        have hr9 := (hT.2.1 s hs).2.2.2.2.1
        have hks : 2 + s < tp.length := by rw [hle]; unfold onK; omega
        have k0 := bA (2 + s) hks
        refine hP _ _ _ _ ?_
        refine mcall (x_streetMany G g l (d+2) s6 T h) (fun r s7 h9 => ?_)
        obtain ⟨rfl, rfl⟩ := h9
        refine And.intro (fun q => absurd q (nI_ge (by omega) (by omega))) (fun _ => ?_)
        refine mcall (x_byteAt0 G g l (d+3) s7 tp hb _ (2 + s) (nI_add _ _) hks) (fun r s8 h9 => ?_)
        obtain ⟨rfl, rfl⟩ := h9
        refine hP _ _ _ _ (at_street T rfl h rfl rfl hs rfl (fun c hc => ?_))
        refine grd (b := isOb (kd true s8 c) _) (by rw [hc.1]; rfl) ?_
        refine And.intro (fun y => ?_) (fun y => ?_)
        · have y : nI tp[2 + s]! < gI s8 c 4 := y
          rw [hc.2.2.2.2.1, nI_ltI (by omega) (by omega)] at y
          show P 38 [some tX, some (iv (nI tp.length)), some (iv (nI s + nI 1)), none, none, none] [] s8
          rw [nI_add]
          exact ih (s+1) (by omega) (by rw [he, show onS1 T tp s = true from decide_eq_true y]; rfl)
        · have y : ¬ nI tp[2 + s]! < gI s8 c 4 := y
          rw [hc.2.2.2.2.1, nI_ltI (by omega) (by omega)] at y
          exact ⟨nar0, by rw [he, show onS1 T tp s = false from decide_eq_false y]; rfl, rfl⟩
    exact st (Tns T) 0 (by omega) eo
  · have q3 : ¬ nI tp[0]! <<< (nI 8 &&& 31) ||| nI tp[1]! ≤ nI 9999 := q3
    rw [or8 b0 b1, nI_leI (by omega) (by omega)] at q3
    unfold okOn
    rw [decide_eq_false (fun z => q3 z.2.2)]
    rfl
set_option maxHeartbeats 2000000 in
theorem x_on (T : Twn) (h : XTn T σ) (hT : TOK T) (tp : List Nat) (hp : XTp tp σ) : MC G g l (d+6) mX0_on [tX] σ (fun r t => XTp [] t ∧ if okOn T tp = true then (r = some (iv (nI 1)) ∧ xS [2, 28] [16, 17, 18, 19, 20] σ t ∧ XNw T (onN T tp) t ∧ gI t 0 28 = nI 0) else (r = some (iv (nI 0)) ∧ xS [2] [15] σ t ∧ XInc 5 σ t)) := by
  have hl := hp.1.1
  have h12 := hT.1
  refine MC1 tX0_on [26, 29, 47, 60, 68, 78] rfl okX0_on rfl rfl rfl rfl (fun P hP => hP _ _ _ _ ?_)
  refine mcall (x_taken0 G g l (d+4) σ tp hp) (fun r s1 h9 => ?_)
  obtain ⟨rfl, S1, E1, B1⟩ := h9
  refine mcall (x_isImage G g l d s1 T (h.xs S1 rfl) hT tp B1 _ rfl) (fun r s2 h9 => ?_)
  obtain ⟨rfl, rfl⟩ := h9
  have nilT : ∀ u, gI u 0 2 = nI 0 → XTp [] u := fun u hu => ⟨⟨by simp, fun k x e => by simp at e⟩, hu⟩
  cases ok : okOn T tp with
  | false =>
    refine And.intro (fun q => absurd rfl q) (fun _ => ?_)
    refine mcall (x_refuses G g l (d+4) s2 _ 5 rfl (by omega)) (fun r s3 h9 => ?_)
    obtain ⟨rfl, e9⟩ := h9
    subst e9
    refine And.intro (fun _ => ⟨nar0, nilT _ E1.2, ?_⟩) (fun q => absurd (show - nI 1 < nI 0 by decide) q)
    show if false = true then _ else _
    rw [if_neg (by decide)]
    exact ⟨rfl, (S1.mono rfl rfl).a rfl, (XInc.mk 5 s2).pre (fun j => S1.ia 15 rfl rfl j)⟩
  | true =>
    have ok2 := ok
    unfold okOn at ok2
    rw [Bool.and_eq_true, decide_eq_true_eq] at ok2
    obtain ⟨⟨hle, -, -⟩, -⟩ := ok2
    have bA : ∀ k, k < tp.length → tp[k]! < 256 := fun k hk => (B1.at hk).2
    have hlen : 3 + Tns T + 4 * Tnw T = tp.length := by rw [hle]; unfold onK; omega
    refine And.intro (fun _ => ?_) (fun q => absurd q (by decide))
    have Bk : ∀ τ, xS [2, 28] [16, 17, 18, 19, 20] s2 τ → XTb tp τ := fun τ hS => B1.xs hS rfl
    have Tk : ∀ τ, xS [2, 28] [16, 17, 18, 19, 20] s2 τ → XTn T τ := fun τ hS => (h.xs S1 rfl).xs hS rfl
    have wk : ∀ (m w : Nat) (o3 : Option AV) (τ : AS), w + m = Tnw T → xS [2, 28] [16, 17, 18, 19, 20] s2 τ → gI τ 0 2 = nI 0 → gI τ 16 0 = nI (Nhr (onN T tp)) → (∀ s, s < Tns T → gI τ 17 s = nI (Nsh (onN T tp) s)) → (∀ j, j < w → gI τ 18 j = nI (Nat_ (onN T tp) j) ∧ gI τ 19 j = nI (Nto (onN T tp) j) ∧ gI τ 20 j = nI (Nfr (onN T tp) j)) → P 47 [some tX, some (iv (nI tp.length)), some (iv (nI w)), o3] [] τ := by
      intro m
      induction m with
      | zero =>
        intro w o3 τ hm hS h2 a1 a2 a3
        refine hP _ _ _ _ ?_
        refine mcall (x_walkerMany G g l (d+3) τ T (Tk τ hS)) (fun r s3 h9 => ?_)
        obtain ⟨rfl, rfl⟩ := h9
        refine And.intro (fun _ => ⟨nar1, nilT _ h2, ?_⟩) (fun q => absurd (nI_le (by omega) (by omega)) q)
        show if okOn T tp = true then _ else _
        rw [if_pos ok]
        exact ⟨rfl, ((S1.mono rfl rfl).tr hS).f rfl, ⟨a1, a2, fun j hj => a3 j (by omega)⟩, rfl⟩
      | succ m ih =>
        intro w o3 τ hm hS h2 a1 a2 a3
        have hkw : onK T w + 4 < tp.length := by rw [hle]; unfold onK; omega
        have k2 := bA (onK T w + 2) (by omega)
        have k3 := bA (onK T w + 3) (by omega)
        have cw : (nI w).toNatClampNeg = w := clN (by omega)
        have vw : vp_in (nI w) 6 := vinN (by omega) (by decide)
        refine hP _ _ _ _ ?_
        refine mcall (x_walkerMany G g l (d+3) τ T (Tk τ hS)) (fun r s3 h9 => ?_)
        obtain ⟨rfl, rfl⟩ := h9
        refine And.intro (fun q => absurd q (nI_ge (by omega) (by omega))) (fun _ => ?_)
        refine mcall (x_streetMany G g l (d+3) s3 T (Tk s3 hS)) (fun r s4 h9 => ?_)
        obtain ⟨rfl, rfl⟩ := h9
        show P 60 [some tX, some (iv (nI tp.length)), some (iv (nI w)), some (iv (nI 2 + nI (Tns T) + nI 4 * nI w))] [] s4
        rw [show nI 2 + nI (Tns T) + nI 4 * nI w = nI (onK T w) from by rw [pk_mul, nI_add, nI_add]; rfl]
        refine hP _ _ _ _ ?_
        refine mcall (x_byteAt0 G g l (d+4) s4 tp (Bk _ hS) _ (onK T w) rfl (by omega)) (fun r s5 h9 => ?_)
        obtain ⟨rfl, rfl⟩ := h9
        refine And.intro vw ?_
        have S5 : xS [2, 28] [16, 17, 18, 19, 20] s2 (sI s5 18 w (nI tp[onK T w]!)) := hS.a rfl
        generalize hu1 : sI s5 18 w (nI tp[onK T w]!) = u1 at *
        show P 68 [some tX, some (iv (nI tp.length)), some (iv (nI w)), some (iv (nI (onK T w)))] [] (sI s5 18 (nI w).toNatClampNeg (nI tp[onK T w]!))
        rw [cw, hu1]
        refine hP _ _ _ _ ?_
        refine mcall (x_byteAt0 G g l (d+4) u1 tp (Bk _ S5) _ (onK T w + 1) (nI_add _ _) (by omega)) (fun r s6 h9 => ?_)
        obtain ⟨rfl, rfl⟩ := h9
        refine And.intro vw ?_
        have S6 : xS [2, 28] [16, 17, 18, 19, 20] s2 (sI s6 19 w (nI tp[onK T w + 1]!)) := S5.a rfl
        generalize hu2 : sI s6 19 w (nI tp[onK T w + 1]!) = u2 at *
        show P 78 [some tX, some (iv (nI tp.length)), some (iv (nI w)), some (iv (nI (onK T w)))] [] (sI s6 19 (nI w).toNatClampNeg (nI tp[onK T w + 1]!))
        rw [cw, hu2]
        refine hP _ _ _ _ ?_
        refine mcall (x_byteAt0 G g l (d+4) u2 tp (Bk _ S6) _ (onK T w + 2) (nI_add _ _) (by omega)) (fun r s7 h9 => ?_)
        obtain ⟨rfl, rfl⟩ := h9
        refine mcall (x_byteAt0 G g l (d+4) s7 tp (Bk _ S6) _ (onK T w + 3) (nI_add _ _) (by omega)) (fun r s7 h9 => ?_)
        obtain ⟨rfl, rfl⟩ := h9
        refine And.intro vw ?_
        show P 47 [some tX, some (iv (nI tp.length)), some (iv (nI w + nI 1)), some (iv (nI (onK T w)))] [] (sI s7 20 (nI w).toNatClampNeg (nI tp[onK T w + 2]! <<< (nI 8 &&& 31) ||| nI tp[onK T w + 3]!))
        rw [cw, nI_add, or8 k2 k3]
        refine ih (w+1) _ _ (by omega) (S6.a rfl) ?_ ?_ (fun s hs => ?_) (fun j hj => ?_)
        · rw [gI_sI, if_neg (by omega), ← hu2, gI_sI, if_neg (by omega), ← hu1, gI_sI, if_neg (by omega)]; exact h2
        · rw [gI_sI, if_neg (by omega), ← hu2, gI_sI, if_neg (by omega), ← hu1, gI_sI, if_neg (by omega)]; exact a1
        · rw [gI_sI, if_neg (by omega), ← hu2, gI_sI, if_neg (by omega), ← hu1, gI_sI, if_neg (by omega)]; exact a2 s hs
        · by_cases e : j = w
          · subst e
            refine ⟨?_, ?_, ?_⟩
            · rw [gI_sI, if_neg (by omega), ← hu2, gI_sI, if_neg (by omega), ← hu1, gI_sI, if_pos ⟨rfl, rfl⟩]; rfl
            · rw [gI_sI, if_neg (by omega), ← hu2, gI_sI, if_pos ⟨rfl, rfl⟩]; rfl
            · rw [gI_sI, if_pos ⟨rfl, rfl⟩]; rfl
          · obtain ⟨c1, c2, c3⟩ := a3 j (by omega)
            refine ⟨?_, ?_, ?_⟩
            · rw [gI_sI, if_neg (by omega), ← hu2, gI_sI, if_neg (by omega), ← hu1, gI_sI, if_neg (by omega)]; exact c1
            · rw [gI_sI, if_neg (by omega), ← hu2, gI_sI, if_neg (by omega), ← hu1, gI_sI, if_neg (by omega)]; exact c2
            · rw [gI_sI, if_neg (by omega), ← hu2, gI_sI, if_neg (by omega), ← hu1, gI_sI, if_neg (by omega)]; exact c3
    have st : ∀ (m s : Nat) (τ : AS), s + m = Tns T → xS [2, 28] [16, 17, 18, 19, 20] s2 τ → gI τ 0 2 = nI 0 → gI τ 16 0 = nI (Nhr (onN T tp)) → (∀ j, j < s → gI τ 17 j = nI (Nsh (onN T tp) j)) → P 29 [some tX, some (iv (nI tp.length)), some (iv (nI s)), none] [] τ := by
      intro m
      induction m with
      | zero =>
        intro s τ hm hS h2 a1 a2
        refine hP _ _ _ _ ?_
        refine mcall (x_streetMany G g l (d+3) τ T (Tk τ hS)) (fun r s3 h9 => ?_)
        obtain ⟨rfl, rfl⟩ := h9
        refine And.intro (fun _ => ?_) (fun q => absurd (nI_le (by omega) (by omega)) q)
        exact wk (Tnw T) 0 _ s3 (by omega) hS h2 a1 (fun s hs => a2 s (by omega)) (fun j hj => by omega)
      | succ m ih =>
        intro s τ hm hS h2 a1 a2
        have cs : (nI s).toNatClampNeg = s := clN (by omega)
        refine hP _ _ _ _ ?_
        refine mcall (x_streetMany G g l (d+3) τ T (Tk τ hS)) (fun r s3 h9 => ?_)
        obtain ⟨rfl, rfl⟩ := h9
        refine And.intro (fun q => absurd q (nI_ge (by omega) (by omega))) (fun _ => ?_)
        refine mcall (x_byteAt0 G g l (d+4) s3 tp (Bk _ hS) _ (2 + s) (nI_add _ _) (by omega)) (fun r s4 h9 => ?_)
        obtain ⟨rfl, rfl⟩ := h9
        refine And.intro (show vp_in (nI s) 12 from vinN (by omega) (by decide)) ?_
        show P 29 [some tX, some (iv (nI tp.length)), some (iv (nI s + nI 1)), none] [] (sI s4 17 (nI s).toNatClampNeg (nI tp[2 + s]!))
        rw [cs, nI_add]
        refine ih (s+1) _ (by omega) (hS.a rfl) ?_ ?_ (fun j hj => ?_)
        · rw [gI_sI, if_neg (by omega)]; exact h2
        · rw [gI_sI, if_neg (by omega)]; exact a1
        · rw [gI_sI]
          by_cases e : j = s
          · rw [if_pos ⟨rfl, e⟩, e]; rfl
          · rw [if_neg (fun z => e z.2)]; exact a2 j (by omega)
    refine mcall (x_byteAt0 G g l (d+4) s2 tp B1 _ 0 rfl (by omega)) (fun r s3 h9 => ?_)
    obtain ⟨rfl, rfl⟩ := h9
    refine mcall (x_byteAt0 G g l (d+4) s3 tp B1 _ 1 rfl (by omega)) (fun r s3 h9 => ?_)
    obtain ⟨rfl, rfl⟩ := h9
    show P 26 [some tX, some (iv (nI tp.length)), none, none] [iv (nI tp[0]! <<< (nI 8 &&& 31) ||| nI tp[1]!), rf 16] s3
    rw [or8 (bA 0 (by omega)) (bA 1 (by omega))]
    refine hP _ _ _ _ ?_
    refine st (Tns T) 0 (sI s3 16 0 (nI (256 * tp[0]! + tp[1]!))) (by omega) (xS.rf.a rfl) ?_ ?_ (fun j hj => by omega)
    · rw [gI_sI, if_neg (by omega)]; exact E1.2
    · rw [gI_sI, if_pos ⟨rfl, rfl⟩]; rfl
end ON_
