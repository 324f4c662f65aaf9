/-! hours of streets together (62), in the component -/
def XTg (T : Twn) (A : Nat → Nat) (σ : AS) : Prop := ∀ p, p < Tnp T → gI σ 62 p = nI (fN (A p))
theorem XTg.xs {fs ids : List Nat} {T : Twn} {A : Nat → Nat} {σ s : AS} (h : XTg T A σ) (hS : xS fs ids σ s) (h1 : ids.contains 62 = false) : XTg T A s := fun p hp => by
  rw [hS.ia 62 h1 rfl]
  exact h p hp
theorem fN_relax {a b k : Nat} (ha : a ≤ NV) (hb : b = NV ∨ b ≤ 800000) (hk : k ≤ 4) : min (fN a) (fN b + k) = fN (min a (b + k)) := by
  unfold fN
  unfold NV at *
  split <;> split <;> split <;> omega
section SK_
variable (G : CX) (g : GX) (l : Launch) (d : Nat) (σ : AS)
def stOK (T : Twn) (s c : Nat) (u : AS) : Prop := kd true u c = (0, 8) ∧ gI u c 1 = nI (Tfr T s) ∧ gI u c 2 = nI (Tto T s) ∧ gI u c 3 = nI (Ttk T s)
theorem XTg.set {T : Twn} {A : Nat → Nat} {u : AS} (h : XTg T A u) (s p q : Nat) {v : Int32} (hv : v = nI (fN (min (A q) (A p + Ttk T s)))) : XTg T (rlD T s A p q) (sI u 62 q v) := fun x hx => by
  rw [gI_sI]
  unfold rlD updN
  by_cases e : x = q
  · rw [if_pos ⟨rfl, e⟩, if_pos e]; exact hv
  · rw [if_neg (fun z => e z.2), if_neg e]; exact h x hx
set_option maxHeartbeats 2000000 in
theorem x_shortest (T : Twn) (n : Nws) (h : XN T n σ) (x : Int32) (src : Nat) (hx : x = nI src) (hs : src < Tnp T) :
    MC G g l (d+5) mX0_shortest [tX, iv x] σ (fun r t => r = none ∧ xS [] [62] σ t ∧ XTg T (SD T n src) t) := by
  subst hx
  have h12 := h.1.1
  refine MC1 tX0_shortest [2, 15, 20, 26, 33, 34, 38, 42, 47, 50, 54, 57, 61, 66, 69, 73] rfl okX0_shortest rfl rfl rfl rfl (fun P hP => ?_)
  have outer : ∀ (j k B : Nat) (A : Nat → Nat) (τ : AS) (x3 x4 : Option AV), k + j = Tnp T → xS [] [62] σ τ → XTg T A τ → (∀ p, p < Tnp T → A p = NV ∨ A p ≤ B) → B + 200 * j ≤ 10000 → (∀ p, p < Tnp T → A p ≤ NV) → (∀ q, q < Tnp T → rlR T j A q = rlR T (Tnp T) (initA src 0) q) → P 20 [some tX, some (iv (nI src)), some (iv (nI k)), x3, x4] [] τ := by
    intro j
    induction j with
    | zero =>
      intro k B A τ x3 x4 hk hS hA hB hB2 hN he
      refine hP _ _ _ _ ?_
      refine mcall (x_placeMany G g l (d+2) τ T (h.2.2.1.xs hS rfl)) (fun r s1 h9 => ?_)
      obtain ⟨rfl, e9⟩ := h9
      subst e9
      refine And.intro (fun _ => ⟨rfl, hS, fun p hp => ?_⟩) (fun q => absurd (nI_le (by omega) (by omega)) q)
      rw [hA p hp, ← rlR_SD (n := n) h.1 hs (Tnp T) (by omega) p hp, ← he p hp]
      rfl
    | succ j ihj =>
      intro k B A0 τ0 x3 x4 hk hS0 hA0 hB0 hB2 hN0 he0
      have inner : ∀ (m s : Nat) (A : Nat → Nat) (τ : AS) (x4 : Option AV), s + m = Tns T → xS [] [62] σ τ → XTg T A τ → (∀ p, p < Tnp T → A p = NV ∨ A p ≤ B + 8 * s) → (∀ p, p < Tnp T → A p ≤ NV) → (∀ q, q < Tnp T → rlR T j (rlS T m s A) q = rlR T (Tnp T) (initA src 0) q) → P 26 [some tX, some (iv (nI src)), some (iv (nI k)), some (iv (nI s)), x4] [] τ := by
        intro m
        induction m with
        | zero =>
          intro s A τ x4 hm hS hA hB hN he
          refine hP _ _ _ _ ?_
          refine mcall (x_streetMany G g l (d+2) τ T (h.2.2.1.xs hS rfl)) (fun r s1 h9 => ?_)
          obtain ⟨rfl, e9⟩ := h9
          subst e9
          refine And.intro (fun _ => ?_) (fun q => absurd (nI_le (by omega) (by omega)) q)
          show P 20 [some tX, some (iv (nI src)), some (iv (nI k + nI 1)), some (iv (nI s)), x4] [] s1
          rw [nI_add]
          exact ihj (k+1) (B + 8 * s) A s1 _ _ (by omega) hS hA hB (by omega) hN he
        | succ m ih =>
          intro s A τ x4 hm hS hA hB hN he
          have hsl : s < Tns T := by omega
          have hT2 := h.1.2.1 s hsl
          have c0 : (nI (Tfr T s)).toNatClampNeg = Tfr T s := clN (by omega)
          have c1 : (nI (Tto T s)).toNatClampNeg = Tto T s := clN (by omega)
          have va : vp_in (nI (Tfr T s)) 9 := vinN (by omega) (by decide)
          have vb : vp_in (nI (Tto T s)) 9 := vinN (by omega) (by decide)
          have hXN := h.xs hS rfl rfl
          refine hP _ _ _ _ ?_
          refine mcall (x_streetMany G g l (d+2) τ T hXN.2.2.1) (fun r s1 h9 => ?_)
          obtain ⟨rfl, e9⟩ := h9
          subst e9
          refine And.intro (fun q => absurd q (nI_ge (by omega) (by omega))) (fun _ => ?_)
          refine hP _ _ _ _ (at_street T rfl hXN.2.2.1 rfl rfl hsl rfl (fun c hc => ?_))
          have hq9 := hc.2.2.2.2.2.1.1
          have hne : c ≠ 62 := by have := hq9.1; omega
          have keepc : ∀ (u : AS) (k : Nat) (v : Int32), stOK T s c u → stOK T s c (sI u 62 k v) := by
            intro u k v hu
            refine ⟨hu.1, ?_, ?_, ?_⟩
            · rw [gI_sI, if_neg (fun z => hne z.1)]; exact hu.2.1
            · rw [gI_sI, if_neg (fun z => hne z.1)]; exact hu.2.2.1
            · rw [gI_sI, if_neg (fun z => hne z.1)]; exact hu.2.2.2
          have hst1 : stOK T s c s1 := ⟨hc.1, hc.2.1, hc.2.2.1, hc.2.2.2.1⟩
          -- the second half
          have at54 : ∀ (A' : Nat → Nat) (u : AS), xS [] [62] σ u → XTg T A' u → stOK T s c u → (∀ p, p < Tnp T → A' p = NV ∨ A' p ≤ B + 8 * s + 4) → (∀ p, p < Tnp T → A' p ≤ NV) → (∀ q, q < Tnp T → rlR T j (rlS T m (s+1) (rlD T s A' (Tto T s) (Tfr T s))) q = rlR T (Tnp T) (initA src 0) q) → P 54 [some tX, some (iv (nI src)), some (iv (nI k)), some (iv (nI s)), some (rf c)] [] u := by
            intro A' u a1 a2 a3 a4 a5 a6
            have gk : isOb (kd true u c) [8] = true := by rw [a3.1]; rfl
            have ea : gI u 62 (gI u c 1).toNatClampNeg = nI (fN (A' (Tfr T s))) := by rw [a3.2.1, c0]; exact a2 _ hT2.1
            have eb : gI u 62 (gI u c 2).toNatClampNeg = nI (fN (A' (Tto T s))) := by rw [a3.2.2.1, c1]; exact a2 _ hT2.2.1
            have fa := fN_le (a5 _ hT2.1)
            have fb := fN_le (a5 _ hT2.2.1)
            refine hP _ _ _ _ ?_
            show P 57 [some tX, some (iv (nI src)), some (iv (nI k)), some (iv (nI s)), some (rf c)] [rf c, rf 62] u
            refine hP _ _ _ _ ?_
            refine grd (b := isOb (kd true u c) _) (by rw [a3.1]; rfl) ?_
            show P 61 [some tX, some (iv (nI src)), some (iv (nI k)), some (iv (nI s)), some (rf c)] [rf c, rf 62, iv (gI u c 1), rf 62] u
            refine hP _ _ _ _ ?_
            refine grd (b := isOb (kd true u c) _) (by rw [a3.1]; rfl) ?_
            refine And.intro (show vp_in (gI u c 1) 9 by rw [a3.2.1]; exact va) ?_
            show P 66 [some tX, some (iv (nI src)), some (iv (nI k)), some (iv (nI s)), some (rf c)] [rf c, rf 62, iv (gI u 62 (gI u c 1).toNatClampNeg), iv (gI u c 1), rf 62] u
            refine hP _ _ _ _ ?_
            refine grd (b := isOb (kd true u c) _) (by rw [a3.1]; rfl) ?_
            refine And.intro (show vp_in (gI u c 2) 9 by rw [a3.2.2.1]; exact vb) ?_
            show P 69 [some tX, some (iv (nI src)), some (iv (nI k)), some (iv (nI s)), some (rf c)] [rf c, iv (gI u 62 (gI u c 2).toNatClampNeg), iv (gI u 62 (gI u c 1).toNatClampNeg), iv (gI u c 1), rf 62] u
            refine hP _ _ _ _ ?_
            refine grd (b := isOb (kd true u c) _) (by rw [a3.1]; rfl) ?_
            refine mcall (j_minI G g l (d+3) u _ _ (fN (A' (Tfr T s))) (fN (A' (Tto T s)) + Ttk T s) ea (show gI u 62 (gI u c 2).toNatClampNeg + gI u c 3 = _ from by rw [eb, a3.2.2.2, nI_add]) (by omega) (by omega)) (fun r s2 h9 => ?_)
            obtain ⟨rfl, e9⟩ := h9
            subst e9
            refine And.intro (show vp_in (gI s2 c 1) 9 by rw [a3.2.1]; exact va) ?_
            show P 73 [some tX, some (iv (nI src)), some (iv (nI k)), some (iv (nI s)), some (rf c)] [] (sI s2 62 (gI s2 c 1).toNatClampNeg (nI (min (fN (A' (Tfr T s))) (fN (A' (Tto T s)) + Ttk T s))))
            rw [a3.2.1, c0]
            refine hP _ _ _ _ ?_
            show P 26 [some tX, some (iv (nI src)), some (iv (nI k)), some (iv (nI s + nI 1)), some (rf c)] [] (sI s2 62 (Tfr T s) (nI (min (fN (A' (Tfr T s))) (fN (A' (Tto T s)) + Ttk T s))))
            rw [nI_add]
            refine ih (s+1) (rlD T s A' (Tto T s) (Tfr T s)) _ _ (by omega) (a1.a rfl) (a2.set s (Tto T s) (Tfr T s) (by rw [fN_relax (a5 _ hT2.1) (by have := a4 _ hT2.2.1; omega) (by omega)])) (fun p hp => ?_) (fun p hp => Nat.le_trans (rlD_le _ _ _ _ _ _) (a5 p hp)) a6
            unfold rlD updN
            split
            · have z1 := a4 _ hT2.1
              have z2 := a4 _ hT2.2.1
              have z3 := a5 _ hT2.1
              unfold NV at *
              omega
            · have := a4 p hp; omega
          show P 34 [some tX, some (iv (nI src)), some (iv (nI k)), some (iv (nI s)), x4] [rf c] s1 
          have ea : gI s1 62 (gI s1 c 1).toNatClampNeg = nI (fN (A (Tfr T s))) := by rw [hst1.2.1, c0]; exact hA _ hT2.1
          have eb : gI s1 62 (gI s1 c 2).toNatClampNeg = nI (fN (A (Tto T s))) := by rw [hst1.2.2.1, c1]; exact hA _ hT2.2.1
          have fa := fN_le (hN _ hT2.1)
          have fb := fN_le (hN _ hT2.2.1)
          refine hP _ _ _ _ ?_
          show P 38 [some tX, some (iv (nI src)), some (iv (nI k)), some (iv (nI s)), some (rf c)] [rf c, rf 62] s1
          refine hP _ _ _ _ ?_
          refine grd (b := isOb (kd true s1 c) _) (by rw [hst1.1]; rfl) ?_
          show P 42 [some tX, some (iv (nI src)), some (iv (nI k)), some (iv (nI s)), some (rf c)] [rf c, rf 62, iv (gI s1 c 2), rf 62] s1
          refine hP _ _ _ _ ?_
          refine grd (b := isOb (kd true s1 c) _) (by rw [hst1.1]; rfl) ?_
          refine And.intro (show vp_in (gI s1 c 2) 9 by rw [hst1.2.2.1]; exact vb) ?_
          show P 47 [some tX, some (iv (nI src)), some (iv (nI k)), some (iv (nI s)), some (rf c)] [rf c, rf 62, iv (gI s1 62 (gI s1 c 2).toNatClampNeg), iv (gI s1 c 2), rf 62] s1
          refine hP _ _ _ _ ?_
          refine grd (b := isOb (kd true s1 c) _) (by rw [hst1.1]; rfl) ?_
          refine And.intro (show vp_in (gI s1 c 1) 9 by rw [hst1.2.1]; exact va) ?_
          show P 50 [some tX, some (iv (nI src)), some (iv (nI k)), some (iv (nI s)), some (rf c)] [rf c, iv (gI s1 62 (gI s1 c 1).toNatClampNeg), iv (gI s1 62 (gI s1 c 2).toNatClampNeg), iv (gI s1 c 2), rf 62] s1
          refine hP _ _ _ _ ?_
          refine grd (b := isOb (kd true s1 c) _) (by rw [hst1.1]; rfl) ?_
          refine mcall (j_minI G g l (d+3) s1 _ _ (fN (A (Tto T s))) (fN (A (Tfr T s)) + Ttk T s) eb (show gI s1 62 (gI s1 c 1).toNatClampNeg + gI s1 c 3 = _ from by rw [ea, hst1.2.2.2, nI_add]) (by omega) (by omega)) (fun r s2 h9 => ?_)
          obtain ⟨rfl, e9⟩ := h9
          subst e9
          refine And.intro (show vp_in (gI s2 c 2) 9 by rw [hst1.2.2.1]; exact vb) ?_
          show P 54 [some tX, some (iv (nI src)), some (iv (nI k)), some (iv (nI s)), some (rf c)] [] (sI s2 62 (gI s2 c 2).toNatClampNeg (nI (min (fN (A (Tto T s))) (fN (A (Tfr T s)) + Ttk T s))))
          rw [hst1.2.2.1, c1]
          refine at54 (rlD T s A (Tfr T s) (Tto T s)) _ (hS.a rfl) (hA.set s (Tfr T s) (Tto T s) (by rw [fN_relax (hN _ hT2.2.1) (by have := hB _ hT2.1; omega) (by omega)])) (keepc _ _ _ hst1) (fun p hp => ?_) (fun p hp => Nat.le_trans (rlD_le _ _ _ _ _ _) (hN p hp)) he
          unfold rlD updN
          split
          · have z1 := hB _ hT2.1
            have z2 := hB _ hT2.2.1
            have z3 := hN _ hT2.2.1
            unfold NV at *
            omega
          · have := hB p hp; omega
      refine hP _ _ _ _ ?_
      refine mcall (x_placeMany G g l (d+2) τ0 T (h.2.2.1.xs hS0 rfl)) (fun r s1 h9 => ?_)
      obtain ⟨rfl, e9⟩ := h9
      subst e9
      refine And.intro (fun q => absurd q (nI_ge (by omega) (by omega))) (fun _ => ?_)
      exact inner (Tns T) 0 A0 s1 _ (by omega) hS0 hA0 (fun p hp => by have := hB0 p hp; omega) hN0 he0
  have first : ∀ (m p : Nat) (t : AS), p + m = Tnp T → xS [] [62] σ t → (∀ q, q < p → gI t 62 q = nI (fN (initA src 0 q))) → P 2 [some tX, some (iv (nI src)), some (iv (nI p)), none, none] [] t := by
    intro m
    induction m with
    | zero =>
      intro p t hm hS hI
      refine hP _ _ _ _ ?_
      refine mcall (x_placeMany G g l (d+2) t T (h.2.2.1.xs hS rfl)) (fun r s1 h9 => ?_)
      obtain ⟨rfl, e9⟩ := h9
      subst e9
      refine And.intro (fun _ => ?_) (fun q => absurd (nI_le (by omega) (by omega)) q)
      refine outer (Tnp T) 0 0 (initA src 0) s1 _ _ (by omega) hS (fun q hq => hI q (by omega)) (fun p hp => ?_) (by omega) (fun p hp => ?_) (fun q _ => rfl)
      · unfold initA; split
        · right; omega
        · left; rfl
      · unfold initA; split
        · unfold NV; omega
        · exact Nat.le_refl _
    | succ m ih =>
      intro p t hm hS hI
      have vpp : vp_in (nI p) 9 := vinN (by omega) (by decide)
      have cp : (nI p).toNatClampNeg = p := clN (by omega)
      have st : ∀ v : Int32, v = nI (fN (initA src 0 p)) → P 15 [some tX, some (iv (nI src)), some (iv (nI p)), none, none] [iv v, iv (nI p), rf 62] t := by
        intro v hv
        refine hP _ _ _ _ (And.intro vpp ?_)
        show P 2 [some tX, some (iv (nI src)), some (iv (nI p + nI 1)), none, none] [] (sI t 62 (nI p).toNatClampNeg v)
        rw [nI_add, cp]
        refine ih (p+1) _ (by omega) (hS.a rfl) (fun q hq => ?_)
        rw [gI_sI]
        by_cases e : q = p
        · rw [if_pos ⟨rfl, e⟩, e]; exact hv
        · rw [if_neg (fun z => e z.2)]; exact hI q (by omega)
      refine hP _ _ _ _ ?_
      refine mcall (x_placeMany G g l (d+2) t T (h.2.2.1.xs hS rfl)) (fun r s1 h9 => ?_)
      obtain ⟨rfl, e9⟩ := h9
      subst e9
      refine And.intro (fun q => absurd q (nI_ge (by omega) (by omega))) (fun _ => And.intro (fun q => ?_) (fun q => ?_))
      · have q : ¬ nI p = nI src := q
        rw [nI_eq (by omega) (by omega)] at q
        exact st _ (by unfold initA; rw [if_neg q, fN_NV])
      · have q : nI p = nI src := q
        rw [nI_eq (by omega) (by omega)] at q
        exact st _ (by unfold initA; rw [if_pos q]; rfl)
  refine hP _ _ _ _ ?_
  exact first (Tnp T) 0 σ (by omega) xS.rf (fun q hq => by omega)
end SK_
