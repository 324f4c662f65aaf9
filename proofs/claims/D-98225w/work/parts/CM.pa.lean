section PA_
variable (G : CX) (g : GX) (l : Launch) (d : Nat) (σ : AS)
set_option maxHeartbeats 1000000 in
theorem x_isThrough (T : Twn) (n : Nws) (h : XN T n σ) (ws : List (Nat × Nat)) (hW : XWay ws σ) (h8 : ws.length ≤ 8) (hws : ∀ (k : Nat) (x : Nat × Nat), ws[k]? = some x → x.1 < Tns T) (x y z : Int32) (b k hr : Nat) (hx : x = nI b) (hy : y = nI k) (hz : z = nI hr) (hb : b ≤ 1000) (hk : k ≤ 48) (h1 : hr ≤ 100000) :
    MC G g l (d+52) mX0_isThrough [tX, iv x, iv y, iv z] σ (fun r t => r = some (iv (bI (paradeF T n b k ws.reverse hr))) ∧ xS [] [14] σ t) := by
  subst hx; subst hy; subst hz
  have h12 := h.1.1
  refine MC1 tX0_isThrough [7, 15, 19, 38, 40] rfl okX0_isThrough rfl rfl rfl rfl (fun P hP => ?_)
  have key : ∀ (i hc : Nat) (v : Int32) (o6 o7 : Option AV) (τ : AS), v = nI i - nI 1 → i ≤ ws.length → hc ≤ hr + 4 * (ws.length - i) → xS [] [14] σ τ → paradeF T n b k ws.reverse hr = paradeF T n b k (ws.take i).reverse hc → P 7 [some tX, some (iv (nI b)), some (iv (nI k)), some (iv (nI hr)), some (iv (nI hc)), some (iv v), o6, o7] [] τ := by
    intro i
    induction i with
    | zero =>
      intro hc v o6 o7 τ hv hi hhc hS hf
      refine hP _ _ _ _ (And.intro (fun _ => ⟨nar1, by rw [hf]; rfl, hS⟩) (fun q => ?_))
      exact absurd (by rw [hv]; decide) q
    | succ i ih =>
      intro hc v o6 o7 τ hv hi hhc hS hf
      have hv : v = nI i := hv.trans (nI_pred i)
      subst hv
      obtain ⟨x, hx⟩ : ∃ x, ws[i]? = some x := ⟨_, List.getElem?_eq_getElem (by omega)⟩
      have hxs := hws i x hx
      have ht := (h.1.2.1 x.1 hxs).2.2.2.1
      have hXN := h.xs hS rfl rfl
      have e6 : ∀ u, xS [] [14] σ u → gI u 60 (nI i).toNatClampNeg = nI x.1 := fun u hu => by rw [clN (by omega), ((hW.xs hu rfl rfl).2 i x hx).1]
      have vi : vp_in (nI i) 9 := vinN (by omega) (by decide)
      have etk : (ws.take (i+1)).reverse = x :: (ws.take i).reverse := by rw [List.take_succ, hx]; simp
      rw [etk] at hf
      have hf : paradeF T n b k ws.reverse hr = (wideF T n x.1 b hc (Ttk T x.1 + k) && paradeF T n b k (ws.take i).reverse (hc + Ttk T x.1)) := hf
      refine hP _ _ _ _ (And.intro (fun q => absurd q (nI_pos (by omega))) (fun _ => And.intro vi ?_))
      refine hP _ _ _ _ (at_street T rfl hXN.2.2.1 rfl (e6 τ hS) hxs rfl (fun c hc2 => ?_))
      have inner : ∀ (j m : Nat) (u : AS), m + j = Ttk T x.1 + k → xS [] [14] τ u → (∀ i, i < m → b ≤ wid T x.1 (Nsh n x.1) (hc + i)) → P 19 [some tX, some (iv (nI b)), some (iv (nI k)), some (iv (nI hr)), some (iv (nI hc)), some (iv (nI i)), some (rf c), some (iv (nI m))] [] u := by
        intro j
        induction j with
        | zero =>
          intro m u hm hu hall
          have hA := hu.agr (ids := [14]) rfl (zn τ) c hc2.2.2.2.2.2.1.1
          have ku : kd true u c = (0, 8) := hA.2.trans hc2.1
          have eu : gI u c 3 = nI (Ttk T x.1) := (hA.1 3).1.trans hc2.2.2.2.1
          refine hP _ _ _ _ ?_
          refine grd (b := isOb (kd true u c) _) (by rw [ku]; rfl) ?_
          refine And.intro (fun _ => ?_) (fun q => absurd (show gI u c 3 + nI k ≤ nI m from by rw [eu, nI_add, nI_leI (by omega) (by omega)]; omega) q)
          refine hP _ _ _ _ ?_
          refine grd (b := isOb (kd true u c) _) (by rw [ku]; rfl) ?_
          show P 7 [some tX, some (iv (nI b)), some (iv (nI k)), some (iv (nI hr)), some (iv (nI hc + gI u c 3)), some (iv (nI i - nI 1)), some (rf c), some (iv (nI m))] [] u
          rw [eu, nI_add]
          refine ih (hc + Ttk T x.1) _ _ _ u rfl (by omega) (by omega) (hS.tr hu) ?_
          rw [hf, show wideF T n x.1 b hc (Ttk T x.1 + k) = true from List.all_eq_true.mpr (fun i hi => decide_eq_true (hall i (by have := List.mem_range.mp hi; omega)))]
          rfl
        | succ j ihj =>
          intro m u hm hu hall
          have hA := hu.agr (ids := [14]) rfl (zn τ) c hc2.2.2.2.2.2.1.1
          have ku : kd true u c = (0, 8) := hA.2.trans hc2.1
          have eu : gI u c 3 = nI (Ttk T x.1) := (hA.1 3).1.trans hc2.2.2.2.1
          have hSu := hS.tr hu
          refine hP _ _ _ _ ?_
          refine grd (b := isOb (kd true u c) _) (by rw [ku]; rfl) ?_
          refine And.intro (fun q => absurd (show gI u c 3 + nI k ≤ nI m from q) (by rw [eu, nI_add, nI_leI (by omega) (by omega)]; omega)) (fun _ => And.intro vi ?_)
          refine mcall (x_widthIn G g l d u T n (h.xs hSu rfl rfl) _ _ x.1 (hc + m) (e6 u hSu) (nI_add hc m) hxs (by omega)) (fun r s1 h9 => ?_)
          obtain ⟨rfl, e9⟩ := h9
          have hw := wid_le T x.1 (Nsh n x.1) (hc + m)
          refine And.intro (fun q => ?_) (fun q => ⟨nar0, ?_, hSu.tr e9⟩)
          · have q : nI b ≤ nI (wid T x.1 (Nsh n x.1) (hc + m)) := q
            rw [nI_leI (by omega) (by omega)] at q
            refine hP _ _ _ _ ?_
            show P 19 [some tX, some (iv (nI b)), some (iv (nI k)), some (iv (nI hr)), some (iv (nI hc)), some (iv (nI i)), some (rf c), some (iv (nI m + nI 1))] [] s1
            rw [nI_add]
            refine ihj (m+1) s1 (by omega) (hu.tr e9) (fun i hi => ?_)
            by_cases e : i = m
            · rw [e]; exact q
            · exact hall i (by omega)
          · have q : ¬ nI b ≤ nI (wid T x.1 (Nsh n x.1) (hc + m)) := q
            rw [nI_leI (by omega) (by omega)] at q
            have : wideF T n x.1 b hc (Ttk T x.1 + k) = false := by
              rw [Bool.eq_false_iff]
              intro hh
              have := List.all_eq_true.mp hh m (List.mem_range.mpr (by omega))
              exact q (of_decide_eq_true this)
            rw [hf, this]
            rfl
      exact inner (Ttk T x.1 + k) 0 τ (by omega) xS.rf (fun i hi => by omega)
  refine hP _ _ _ _ ?_
  exact key ws.length hr _ none none σ (by show gI σ 0 17 - nI 1 = _; rw [hW.1]) (Nat.le_refl _) (by omega) xS.rf (by rw [List.take_of_length_le (Nat.le_refl _)])
set_option maxHeartbeats 2000000 in
theorem x_parade (T : Twn) (n : Nws) (h : XB T n σ) (a b : Int32) : MC G g l (d+58) mX0_parade [tX, iv a, iv b] σ (fun r t => r = some (iv (q_parade T n a b)) ∧ xS [17, 18] [14, 58, 59, 60, 61] σ t) := by
  have h12 := h.1.1.1
  have hh := h.1.2.1.1
  refine MC1 tX0_parade [13, 19, 30] rfl okX0_parade rfl rfl rfl rfl (fun P hP => ?_)
  have no : ∀ τ, xS [17, 18] [14, 58, 59, 60, 61] σ τ → ¬ okPar T n a b → P 13 [some tX, some (iv a), some (iv b), none] [] τ := by
    intro τ hS e
    exact hP _ _ _ _ ⟨by unfold q_parade; rw [if_neg e], hS⟩
  refine hP _ _ _ _ ?_
  refine mcall (x_isWalker G g l (d+54) σ T a h.1.2.2.1 h.1.1) (fun r s' h9 => ?_)
  obtain ⟨rfl, rfl⟩ := h9
  cases ha : inR a (Tnw T) with
  | false => exact And.intro (fun _ => no _ xS.rf (fun e => by have e1 := e.1; rw [ha] at e1; cases e1)) (fun q => absurd rfl q)
  | true =>
    refine And.intro (fun q => absurd q (by decide)) (fun _ => ?_)
    refine mcall (x_btw G g l (d+56) _ b _ _ 0 48 rfl rfl (by decide) (by decide)) (fun r s' h9 => ?_)
    obtain ⟨rfl, rfl⟩ := h9
    cases hb : btw b 0 48 with
    | false => exact And.intro (fun _ => no _ xS.rf (fun e => by have e1 := e.2.1; rw [hb] at e1; cases e1)) (fun q => absurd rfl q)
    | true =>
      refine And.intro (fun q => absurd q (by decide)) (fun _ => ?_)
      obtain ⟨w, hw, rfl⟩ := inR_of ha (by omega)
      obtain ⟨k, -, hk, rfl⟩ := btw_of hb (by decide)
      have cw : (nI w).toNatClampNeg = w := clN (by omega)
      have ck : (nI k).toNatClampNeg = k := clN (by omega)
      have hbr := (h.1.1.2.2 w hw).1
      refine mcall (x_goes G g l d _ T n h.1 [] h.2.1 99 h.2.2 _ w rfl hw) (fun r s2 h9 => ?_)
      obtain ⟨rfl, hS, -, -, hWy⟩ := h9
      by_cases hN : EAw T n [] 99 w (Nto n w) = NV
      · rw [decide_eq_false (fun e => e hN)]
        exact And.intro (fun q => absurd rfl q) (fun _ => no _ hS (fun e => by have e1 := e.2.2; rw [cw] at e1; exact e1 hN))
      · rw [decide_eq_true hN]
        obtain ⟨hW, hl⟩ := hWy hN
        have hW : XWay (way0 T n w) s2 := hW
        have hl : (way0 T n w).length ≤ 8 := hl
        have hst : ∀ (k : Nat) (x : Nat × Nat), (way0 T n w)[k]? = some x → x.1 < Tns T := fun k x hx => wayF_st _ _ x (List.mem_of_getElem? hx)
        refine And.intro (fun _ => ?_) (fun q => absurd q (by decide))
        have e : q_parade T n (nI w) (nI k) = optI (firstF (fun h => paradeF T n (Tbr T w) k (way0 T n w).reverse h) 401 (Nhr n)) := by
          unfold q_parade
          rw [if_pos ⟨ha, hb, by rw [cw]; exact hN⟩, cw, ck]
        have key : ∀ (m j : Nat) (x : Int32) (τ : AS), x = nI j → j + m = Nhr n + 401 → xS [17, 18] [14, 58, 59, 60, 61] s' τ → XWay (way0 T n w) τ → firstF (fun h => paradeF T n (Tbr T w) k (way0 T n w).reverse h) 401 (Nhr n) = firstF (fun h => paradeF T n (Tbr T w) k (way0 T n w).reverse h) m j → P 19 [some tX, some (iv (nI w)), some (iv (nI k)), some (iv x)] [] τ := by
          intro m
          induction m with
          | zero =>
            intro j x τ hx hm hS hWt hf
            subst hx
            refine hP _ _ _ _ (And.intro (fun _ => ⟨by rw [e, hf]; rfl, hS⟩) (fun q => ?_))
            have q : ¬ gI τ 16 0 + nI 400 < nI j := q
            rw [(h.1.2.2.2.xs hS rfl).1, nI_add, nI_ltI (by omega) (by omega)] at q
            omega
          | succ m ih =>
            intro j x τ hx hm hS hWt hf
            subst hx
            have hXN := h.1.xs hS rfl rfl
            refine hP _ _ _ _ (And.intro (fun q => ?_) (fun _ => ?_))
            · have q : gI τ 16 0 + nI 400 < nI j := q
              rw [(h.1.2.2.2.xs hS rfl).1, nI_add, nI_ltI (by omega) (by omega)] at q
              omega
            · refine hP _ _ _ _ (at_walker T rfl hXN.2.2.1 rfl rfl hw rfl (fun c hc => ?_))
              refine grd (b := isOb (kd true τ c) _) (by rw [hc.1]; rfl) ?_
              refine mcall (x_isThrough G g l (d+5) τ T n hXN (way0 T n w) hWt hl hst _ _ _ (Tbr T w) k j hc.2.1 rfl rfl (by omega) hk (by omega)) (fun r s3 h9 => ?_)
              obtain ⟨rfl, h9⟩ := h9
              have hS2 := hS.tr (h9.mono rfl rfl)
              cases hp : paradeF T n (Tbr T w) k (way0 T n w).reverse j with
              | true =>
                refine And.intro (fun q => absurd q (by decide)) (fun _ => ⟨?_, hS2⟩)
                rw [e, hf]
                unfold firstF
                rw [if_pos hp]
                rfl
              | false =>
                refine And.intro (fun _ => ?_) (fun q => absurd rfl q)
                refine ih (j+1) _ s3 (nI_add j 1) (by omega) hS2 (hWt.xs h9 rfl rfl) ?_
                rw [hf]
                conv => lhs; unfold firstF
                rw [if_neg (by rw [hp]; decide)]
        exact key 401 (Nhr n) _ s2 (h.1.2.2.2.xs hS rfl).1 rfl hS hW rfl
end PA_
