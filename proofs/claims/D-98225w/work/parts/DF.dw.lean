section DF_
variable (G : CX) (g : GX) (l : Launch) (d : Nat) (σ : AS)
set_option maxRecDepth 10000 in
set_option maxHeartbeats 2000000 in
theorem x_doctors (T : Twn) (n : Nws) (h : XB T n σ) (a b c : Int32) : MC G g l (d+56) mX0_doctors [tX, iv a, iv b, iv c] σ (fun r t => r = some (iv (q_doctors T n a b c)) ∧ xS [18] dIds σ t) := by
  have h12 := h.1.1.1
  have hhr := h.1.2.1.1
  have hBx : ∀ {t : AS}, xS [18] dIds σ t → XB T n t := fun hS => h.xs hS (by decide) (by decide) (by decide) (by decide)
  refine MC1 tX0_doctors [11, 15, 21, 37, 42, 50, 70, 82, 96, 109, 114, 128] rfl okX0_doctors rfl rfl rfl rfl (fun P hP => ?_)
  have no : okD2 T a b = false → P 11 [some tX, some (iv a), some (iv b), some (iv c), none, none, none] [] σ := by
    intro e
    refine hP _ _ _ _ ⟨?_, xS.rf⟩
    rw [q_doc2 T h.1.1, if_neg (by rw [e]; decide)]
  refine hP _ _ _ _ ?_
  refine mcall (x_isBroad G g l (d+53) σ a) (fun r s' h9 => ?_)
  obtain ⟨rfl, e9⟩ := h9
  subst e9
  cases ha : btw a 1 99 with
  | false => exact And.intro (fun _ => no (by unfold okD2; rw [ha]; rfl)) (fun q => absurd rfl q)
  | true =>
  refine And.intro (fun q => absurd q (by decide)) (fun _ => ?_)
  refine mcall (x_btw G g l (d+54) s' b _ _ 0 400 rfl rfl (by decide) (by decide)) (fun r s2 h9 => ?_)
  obtain ⟨rfl, e9⟩ := h9
  subst e9
  cases hb : btw b 0 400 with
  | false => exact And.intro (fun _ => no (by unfold okD2; rw [ha, hb]; rfl)) (fun q => absurd rfl q)
  | true =>
  refine And.intro (fun q => absurd q (by decide)) (fun _ => ?_)
  refine mcall (x_placeMany G g l (d+53) s2 T h.1.2.2.1) (fun r s3 h9 => ?_)
  obtain ⟨rfl, e9⟩ := h9
  subst e9
  refine And.intro (fun q => ?_) (fun q => ?_)
  rotate_left
  · have q0 : Tnp T = 0 := by
      exact (nI_eq (by omega) (by omega)).mp q
    exact no (by unfold okD2; rw [ha, hb, decide_eq_false (fun e => e q0)]; rfl)
  have q0 : Tnp T ≠ 0 := fun e => (show ¬ nI (Tnp T) = nI 0 from q) (by rw [e])
  have eok : okD2 T a b = true := by unfold okD2; rw [ha, hb, decide_eq_true q0]; rfl
  have eq : q_doctors T n a b c = docL c ((docF (enough T (rchS T n a.toNatClampNeg b.toNatClampNeg)) (Tnp T)).map dL) := by rw [q_doc2 T h.1.1, if_pos eok]
  obtain ⟨br, hb1, hb2, rfl⟩ := btw_of ha (by decide)
  obtain ⟨wi, hw1, hw2, rfl⟩ := btw_of hb (by decide)
  rw [clN (by omega), clN (by omega)] at eq
  clear eok no ha hb hb1 hw1 q
  -- the end
  have fin : ∀ (t : AS) (o : Option (List Nat)) (o5 o6 : Option AV), xS [18] dIds s3 t → o = (docF (enough T (rchS T n br wi)) (Tnp T)).map dL → P 96 [some tX, some (iv (nI br)), some (iv (nI wi)), some (iv c), some (iv (srvI o)), o5, o6] [] t := by
    intro t o o5 o6 hS ho
    rw [← ho] at eq
    have at109 : ∀ (x : Int32) (o5 o6 : Option AV), x = docL c o → P 109 [some tX, some (iv (nI br)), some (iv (nI wi)), some (iv c), some (iv (srvI o)), o5, o6] [iv x] t := by
      intro x o5 o6 hx
      exact hP _ _ _ _ ⟨by rw [eq, hx], hS⟩
    cases hd : docF (enough T (rchS T n br wi)) (Tnp T) with
    | none =>
      rw [hd] at ho
      have ho : o = none := ho
      subst ho
      refine hP _ _ _ _ (And.intro (fun _ => And.intro (fun q => absurd rfl q) (fun _ => ?_)) (fun q => absurd rfl q))
      exact at109 _ _ _ rfl
    | some x =>
      rw [hd] at ho
      have ho : o = some (dL x) := ho
      obtain ⟨d1, d2, d3, d4⟩ := docF_ok (by omega) hd
      obtain ⟨a1, a2, a3, a4⟩ := allP_in _ d1
      generalize dL x = pre at *
      subst ho
      have hne := setI_ne (pre := pre) (fun p hp => by have := a1 p hp; omega)
      refine hP _ _ _ _ (And.intro (fun q => absurd (show setI pre = - nI 1 from q) hne) (fun _ => And.intro (fun hc => ?_) (fun hc => ?_)))
      · have hc : ¬ c = - nI 1 := hc
        have loop : ∀ (m p : Nat) (o5 : Int32), p + m = Tnp T → o5 = c - nI (cntL pre p) → (∀ j, j < cntL pre p → c ≠ nI j) → P 114 [some tX, some (iv (nI br)), some (iv (nI wi)), some (iv c), some (iv (setI pre)), some (iv o5), some (iv (nI p))] [] t := by
          intro m
          induction m with
          | zero =>
            intro p o5 hm h5 hno
            refine hP _ _ _ _ ?_
            refine mcall (x_placeMany G g l (d+53) t T (hBx hS).1.2.2.1) (fun r s4 h9 => ?_)
            obtain ⟨rfl, e9⟩ := h9
            subst e9
            refine And.intro (fun _ => ⟨?_, hS⟩) (fun q => absurd (nI_le (by omega) (by omega)) q)
            have hp : p = Tnp T := by omega
            rw [hp, cntL_all d4] at hno
            rw [eq, docL_miss a3 hc hno]
          | succ m ih =>
            intro p o5 hm h5 hno
            have hp9 : p < 9 := by omega
            have hcn := (allP_cnt pre d1 p hp9).2
            have next : ∀ (o5 : Int32), o5 = c - nI (cntL pre (p+1)) → (∀ j, j < cntL pre (p+1) → c ≠ nI j) → P 128 [some tX, some (iv (nI br)), some (iv (nI wi)), some (iv c), some (iv (setI pre)), some (iv o5), some (iv (nI p))] [] t := by
              intro o5 h5 hno
              refine hP _ _ _ _ ?_
              show P 114 [some tX, some (iv (nI br)), some (iv (nI wi)), some (iv c), some (iv (setI pre)), some (iv o5), some (iv (nI p + nI 1))] [] t
              rw [nI_add]
              exact ih (p+1) o5 (by omega) h5 hno
            refine hP _ _ _ _ ?_
            refine mcall (x_placeMany G g l (d+53) t T (hBx hS).1.2.2.1) (fun r s4 h9 => ?_)
            obtain ⟨rfl, e9⟩ := h9
            subst e9
            refine And.intro (fun q => absurd q (nI_ge (by omega) (by omega))) (fun _ => ?_)
            refine mcall (x_has G g l (d+54) s4 (setI pre) p _ rfl) (fun r s5 h9 => ?_)
            obtain ⟨rfl, e9⟩ := h9
            subst e9
            rw [setI_has (by omega) pre (fun q hq => by have := a1 q hq; omega)]
            by_cases hm2 : p ∈ pre
            · rw [decide_eq_true hm2]
              rw [if_pos hm2] at hcn
              refine And.intro (fun _ => ?_) (fun q => absurd q (show ¬ bI true = nI 0 by decide))
              refine And.intro (fun q => ?_) (fun q => ?_)
              · have q : ¬ o5 = nI 0 := q
                rw [h5] at q
                have q := fun z => q (sub_zero_iff.mpr z)
                show P 128 [some tX, some (iv (nI br)), some (iv (nI wi)), some (iv c), some (iv (setI pre)), some (iv (o5 - nI 1)), some (iv (nI p))] [] s5
                refine next _ (by rw [h5, hcn, sub_nI1]) (fun j hj => ?_)
                by_cases e : j = cntL pre p
                · rw [e]; exact q
                · exact hno j (by omega)
              · have q : o5 = nI 0 := q
                rw [h5] at q
                have q := sub_zero_iff.mp q
                refine ⟨?_, hS⟩
                rw [eq, q, docL_hit d1 hp9 hm2]
            · rw [decide_eq_false hm2]
              rw [if_neg hm2] at hcn
              refine And.intro (fun q => absurd rfl q) (fun _ => ?_)
              exact next _ (by rw [h5, hcn]; rfl) (by rw [hcn]; exact hno)
        show P 114 [some tX, some (iv (nI br)), some (iv (nI wi)), some (iv c), some (iv (setI pre)), some (iv c), some (iv (nI 0))] [] t
        exact loop (Tnp T) 0 c (by omega) (by rw [a4]; exact (Int32.sub_zero c).symm) (fun j hj => by omega)
      · have hc : c = - nI 1 := hc
        refine And.intro (fun _ => ?_) (fun q => absurd q hne)
        refine mcall (j_bitCount G g l (d+54) t _) (fun r s4 h9 => ?_)
        obtain ⟨rfl, e9⟩ := h9
        subst e9
        refine at109 _ _ _ ?_
        rw [show srvI (some pre) = setI pre from rfl, allP_bc pre d1]
        show _ = if _ then _ else _
        rw [if_pos hc]
  -- the seeking
  have seek : ∀ (t : AS) (o4 o5 o6 : Option AV), xS [18] dIds s3 t → XRe T (rchS T n br wi) t → P 15 [some tX, some (iv (nI br)), some (iv (nI wi)), some (iv c), some (iv (nI (Tnp T))), o5, o6] [] t := by
    intro t o4 o5 o6 hS hR
    have hB := hBx hS
    have hdL := docF_dL T (rchS T n br wi)
    have at82s : ∀ (pre : List Nat) (j : Nat) (o6 : Option AV), 1 ≤ j → j ≤ 4 → some pre = (docF (enough T (rchS T n br wi)) (Tnp T)).map dL → P 82 [some tX, some (iv (nI br)), some (iv (nI wi)), some (iv c), some (iv (srvI (some pre))), some (iv (nI j)), o6] [] t := by
      intro pre j o6 h1 h4 hp
      have hne : ¬ srvI (some pre) = - nI 1 := by
        cases hd : docF (enough T (rchS T n br wi)) (Tnp T) with
        | none => rw [hd] at hp; cases hp
        | some x =>
          rw [hd] at hp
          have hp : pre = dL x := Option.some.inj hp
          have d1 := (docF_ok (by omega) hd).1
          rw [hp]
          exact setI_ne (fun p hp => by have := (allP_in _ d1).1 p hp; omega)
      refine hP _ _ _ _ (And.intro (fun _ => fin t (some pre) _ _ hS hp) (fun _ => And.intro (fun _ => fin t (some pre) _ _ hS hp) (fun q => absurd q hne)))
    refine hP _ _ _ _ ?_
    refine mcall (x_placeMany G g l (d+53) t T hB.1.2.2.1) (fun r s4 h9 => ?_)
    obtain ⟨rfl, e9⟩ := h9
    subst e9
    refine And.intro (fun _ => ?_) (fun q => absurd (nI_le (Nat.le_refl _) (by omega)) q)
    show P 82 [some tX, some (iv (nI br)), some (iv (nI wi)), some (iv c), some (iv (- nI 1)), some (iv (nI 1)), o6] [] s4
    refine hP _ _ _ _ (And.intro (fun q => absurd q (by decide)) (fun _ => And.intro (fun q => absurd rfl q) (fun _ => ?_)))
    refine mcall (x_serving G g l (d+50) T h.1.1 (rchS T n br wi) 1 s4 0 [] _ _ _ hB.1.2.2.1 hR (by omega) (by omega) (fun p hp => by cases hp) rfl rfl rfl) (fun r s5 h9 => ?_)
    obtain ⟨rfl, e9⟩ := h9
    subst e9
    cases h1 : srvF (svd T (rchS T n br wi)) (Tnp T) 1 0 [] with
    | some l1 =>
      rw [h1] at hdL
      show P 82 [some tX, some (iv (nI br)), some (iv (nI wi)), some (iv c), some (iv (srvI (some l1))), some (iv (nI 1 + nI 1)), o6] [] s5
      rw [nI_add]
      exact at82s l1 2 _ (by omega) (by omega) hdL.symm
    | none =>
    rw [h1] at hdL
    show P 82 [some tX, some (iv (nI br)), some (iv (nI wi)), some (iv c), some (iv (- nI 1)), some (iv (nI 1 + nI 1)), o6] [] s5
    rw [nI_add]
    refine hP _ _ _ _ (And.intro (fun q => absurd q (by decide)) (fun _ => And.intro (fun q => absurd rfl q) (fun _ => ?_)))
    refine mcall (x_serving G g l (d+49) T h.1.1 (rchS T n br wi) 2 s5 0 [] _ _ _ hB.1.2.2.1 hR (by omega) (by omega) (fun p hp => by cases hp) rfl rfl rfl) (fun r s6 h9 => ?_)
    obtain ⟨rfl, e9⟩ := h9
    subst e9
    cases h2 : srvF (svd T (rchS T n br wi)) (Tnp T) 2 0 [] with
    | some l1 =>
      rw [h2] at hdL
      show P 82 [some tX, some (iv (nI br)), some (iv (nI wi)), some (iv c), some (iv (srvI (some l1))), some (iv (nI 2 + nI 1)), o6] [] s6
      rw [nI_add]
      exact at82s l1 3 _ (by omega) (by omega) hdL.symm
    | none =>
    rw [h2] at hdL
    show P 82 [some tX, some (iv (nI br)), some (iv (nI wi)), some (iv c), some (iv (- nI 1)), some (iv (nI 2 + nI 1)), o6] [] s6
    rw [nI_add]
    refine hP _ _ _ _ (And.intro (fun q => absurd q (by decide)) (fun _ => And.intro (fun q => absurd rfl q) (fun _ => ?_)))
    refine mcall (x_serving G g l (d+48) T h.1.1 (rchS T n br wi) 3 s6 0 [] _ _ _ hB.1.2.2.1 hR (by omega) (by omega) (fun p hp => by cases hp) rfl rfl rfl) (fun r s7 h9 => ?_)
    obtain ⟨rfl, e9⟩ := h9
    subst e9
    have hdL : srvF (svd T (rchS T n br wi)) (Tnp T) 3 0 [] = (docF (enough T (rchS T n br wi)) (Tnp T)).map dL := hdL.symm
    generalize srvF (svd T (rchS T n br wi)) (Tnp T) 3 0 [] = o3 at hdL
    show P 82 [some tX, some (iv (nI br)), some (iv (nI wi)), some (iv c), some (iv (srvI o3)), some (iv (nI 3 + nI 1)), o6] [] s7
    rw [nI_add]
    exact hP _ _ _ _ (And.intro (fun _ => fin s7 o3 _ _ hS hdL) (fun q => absurd (show nI 4 > nI 3 by decide) q))
  -- the filling
  have big : ∀ (m p : Nat) (t : AS) (o5 o6 : Option AV), p + m = Tnp T → xS [18] dIds s3 t → (∀ p', p' < p → ∀ k, k < 24 → gI t (68 + p') k = rchS T n br wi p' k) → P 15 [some tX, some (iv (nI br)), some (iv (nI wi)), some (iv c), some (iv (nI p)), o5, o6] [] t := by
    intro m
    induction m with
    | zero =>
      intro p t o5 o6 hm hS hall
      have hp : p = Tnp T := by omega
      subst hp
      exact seek t none _ _ hS hall
    | succ m ih =>
      intro p t o5 o6 hm hS hall
      have hpn : p < Tnp T := by omega
      have hp9 : p < 9 := by omega
      have cp : (nI p).toNatClampNeg = p := clN (by omega)
      have vp : vp_in (nI p) 9 := vinN (by omega) (by decide)
      have mid : ∀ (m2 k : Nat) (t : AS) (o6 : Option AV), k + m2 = 24 → xS [18] dIds s3 t → (∀ p', p' < p → ∀ k, k < 24 → gI t (68 + p') k = rchS T n br wi p' k) → (∀ k', k' < k → gI t (68 + p) k' = rchS T n br wi p k') → P 21 [some tX, some (iv (nI br)), some (iv (nI wi)), some (iv c), some (iv (nI p)), some (iv (nI k)), o6] [] t := by
        intro m2
        induction m2 with
        | zero =>
          intro k t o6 hk hS hall hrow
          refine hP _ _ _ _ (And.intro (fun _ => ?_) (fun q => absurd (nI_le (by omega) (by omega)) q))
          show P 15 [some tX, some (iv (nI br)), some (iv (nI wi)), some (iv c), some (iv (nI p + nI 1)), some (iv (nI k)), o6] [] t
          rw [nI_add]
          refine ih (p+1) t _ _ (by omega) hS (fun p' hp' k' hk' => ?_)
          by_cases e : p' = p
          · rw [e]; exact hrow k' (by omega)
          · exact hall p' (by omega) k' hk'
        | succ m2 ih2 =>
          intro k t o6 hk hS hall hrow
          have hB := hBx hS
          have hk24 : k < 24 := by omega
          have ck : (nI k).toNatClampNeg = k := clN (by omega)
          have kk : ∀ u, kd true u (68 + p) = (5, 24) := fun u => kd_inT hp9
          refine hP _ _ _ _ (And.intro (fun q => absurd q (nI_ge (by omega) (by omega))) (fun _ => ?_))
          refine mcall (x_labels G g l d t T n hB.1 [] hB.2.1 99 hB.2.2 _ _ _ p br (Nhr n + k) rfl rfl (show gI t 16 0 + nI k = _ from by rw [hB.1.2.2.2.1, nI_add]) hpn (by omega) (by omega)) (fun r s4 h9 => ?_)
          obtain ⟨rfl, S4, -, L4, -, -⟩ := h9
          have S4' := hS.tr (S4.mono (fs' := [18]) (ids' := dIds) rfl (by decide))
          refine And.intro vp ?_
          show P 37 [some tX, some (iv (nI br)), some (iv (nI wi)), some (iv c), some (iv (nI p)), some (iv (nI k)), o6] [rf (68 + (nI p).toNatClampNeg)] s4
          rw [cp]
          refine hP _ _ _ _ ?_
          refine grd (b := Nat.beq (kd true s4 (68 + p)).1 5) (by rw [kk]; rfl) ?_
          refine And.intro (show vp_in (nI k) (kd true s4 (68 + p)).2 by rw [kk]; exact vinN hk24 (by decide)) ?_
          have hC : (dIds.drop 3).contains (68 + p) = true := by
            have : ∀ k : Fin 9, (dIds.drop 3).contains (68 + k.val) = true := by decide
            exact this ⟨p, hp9⟩
          have inner : ∀ (m3 q : Nat) (u : AS), q + m3 = Tnp T → xS [18] dIds s3 u → XLa T (EAf T n [] 99 br (Nhr n + k + 401) p (Nhr n + k)) u → (∀ p', p' < p → ∀ k, k < 24 → gI u (68 + p') k = rchS T n br wi p' k) → (∀ k', k' < k → gI u (68 + p) k' = rchS T n br wi p k') → gI u (68 + p) k = bitsF (rchB T n br wi p (Nhr n + k)) q → P 42 [some tX, some (iv (nI br)), some (iv (nI wi)), some (iv c), some (iv (nI p)), some (iv (nI k)), some (iv (nI q))] [] u := by
            intro m3
            induction m3 with
            | zero =>
              intro q u hq hS hL hall hrow hb
              have hq : q = Tnp T := by omega
              subst hq
              refine hP _ _ _ _ ?_
              refine mcall (x_placeMany G g l (d+53) u T (hBx hS).1.2.2.1) (fun r s5 h9 => ?_)
              obtain ⟨rfl, e9⟩ := h9
              subst e9
              refine And.intro (fun _ => ?_) (fun q => absurd (nI_le (Nat.le_refl _) (by omega)) q)
              show P 21 [some tX, some (iv (nI br)), some (iv (nI wi)), some (iv c), some (iv (nI p)), some (iv (nI k + nI 1)), some (iv (nI (Tnp T)))] [] s5
              rw [nI_add]
              refine ih2 (k+1) s5 _ (by omega) hS hall (fun k' hk' => ?_)
              by_cases e : k' = k
              · rw [e]; exact hb
              · exact hrow k' (by omega)
            | succ m3 ih3 =>
              intro q u hq hS hL hall hrow hb
              have hqn : q < Tnp T := by omega
              have hB := hBx hS
              have cq : (nI q).toNatClampNeg = q := clN (by omega)
              refine hP _ _ _ _ ?_
              refine mcall (x_placeMany G g l (d+53) u T hB.1.2.2.1) (fun r s5 h9 => ?_)
              obtain ⟨rfl, e9⟩ := h9
              subst e9
              refine And.intro (fun q => absurd q (nI_ge (by omega) (by omega))) (fun _ => And.intro vp ?_)
              show P 50 [some tX, some (iv (nI br)), some (iv (nI wi)), some (iv c), some (iv (nI p)), some (iv (nI k)), some (iv (nI q))] [rf (68 + (nI p).toNatClampNeg)] s5
              rw [cp]
              have next : ∀ (x y : Int32), y ||| x = bitsF (rchB T n br wi p (Nhr n + k)) (q+1) → P 70 [some tX, some (iv (nI br)), some (iv (nI wi)), some (iv c), some (iv (nI p)), some (iv (nI k)), some (iv (nI q))] [iv x, iv y, iv (nI k), rf (68 + p)] s5 := by
                intro x y hxy
                refine hP _ _ _ _ ?_
                refine grd (b := Nat.beq (kd true s5 (68 + p)).1 5) (by rw [kk]; rfl) ?_
                refine And.intro (show vp_in (nI k) (kd true s5 (68 + p)).2 by rw [kk]; exact vinN hk24 (by decide)) ?_
                show P 42 [some tX, some (iv (nI br)), some (iv (nI wi)), some (iv c), some (iv (nI p)), some (iv (nI k)), some (iv (nI q + nI 1))] [] (sI s5 (68 + p) (nI k).toNatClampNeg (y ||| x))
                rw [nI_add, ck, hxy]
                refine ih3 (q+1) _ (by omega) (hS.a (dIds_row hp9)) (hL.xs (xS.rf.a (fs := []) (ids := dIds.drop 3) hC) rfl) (fun p' hp' k' hk' => ?_) (fun k' hk' => ?_) ?_
                · rw [gI_sI, if_neg (by omega)]; exact hall p' hp' k' hk'
                · rw [gI_sI, if_neg (by omega)]; exact hrow k' hk'
                · rw [gI_sI, if_pos ⟨rfl, rfl⟩]
              refine hP _ _ _ _ ?_
              refine grd (b := Nat.beq (kd true s5 (68 + p)).1 5) (by rw [kk]; rfl) ?_
              refine And.intro (show vp_in (nI k) (kd true s5 (68 + p)).2 by rw [kk]; exact vinN hk24 (by decide)) (And.intro (show vp_in (nI q) 9 from vinN (by omega) (by decide)) ?_)
              have e58 : gI s5 58 (nI q).toNatClampNeg = nI (fN (EAf T n [] 99 br (Nhr n + k + 401) p (Nhr n + k) q)) := by rw [cq]; exact hL q hqn
              have eh : gI s5 16 0 + nI k + nI wi = nI (Nhr n + k + wi) := by rw [hB.1.2.2.2.1, nI_add, nI_add]
              have hfl := fN_le ((EA_ex9 T n [] 99 br (Nhr n + k + 401) p (Nhr n + k) (by omega) (by omega)).2 q)
              have hre := rch_eq (T := T) (n := n) (b := br) (wi := wi) (p := p) (hr := Nhr n + k) (q := q) hw2 (by omega) hqn
              have eb : gI s5 (68 + p) (nI k).toNatClampNeg = bitsF (rchB T n br wi p (Nhr n + k)) q := by rw [ck]; exact hb
              refine And.intro (fun z => ?_) (fun z => ?_)
              · have z : gI s5 58 (nI q).toNatClampNeg > gI s5 16 0 + nI k + nI wi := z
                rw [e58, eh] at z
                have z2 := (nI_ltI (by omega) (by omega)).mp z
                refine next _ _ ?_
                show gI s5 (68 + p) (nI k).toNatClampNeg ||| nI 0 = _
                rw [eb, or0]
                show _ = if _ then _ else _
                rw [if_neg (by rw [hre, decide_eq_false (by omega)]; decide)]
              · have z : ¬ gI s5 58 (nI q).toNatClampNeg > gI s5 16 0 + nI k + nI wi := z
                rw [e58, eh] at z
                have z2 : ¬ (Nhr n + k + wi < fN (EAf T n [] 99 br (Nhr n + k + 401) p (Nhr n + k) q)) := fun w => z ((nI_ltI (by omega) (by omega)).mpr w)
                refine next _ _ ?_
                show gI s5 (68 + p) (nI k).toNatClampNeg ||| (nI 1 <<< (nI q &&& 31)) = _
                rw [eb]
                show _ = if _ then _ else _
                rw [if_pos (by rw [hre, decide_eq_true (by omega)])]
          show P 42 [some tX, some (iv (nI br)), some (iv (nI wi)), some (iv c), some (iv (nI p)), some (iv (nI k)), some (iv (nI 0))] [] (sI s4 (68 + p) (nI k).toNatClampNeg (nI 0))
          rw [ck]
          refine inner (Tnp T) 0 _ (by omega) (S4'.a (dIds_row hp9)) (L4.xs (xS.rf.a (fs := []) (ids := dIds.drop 3) hC) rfl) (fun p' hp' k' hk' => ?_) (fun k' hk' => ?_) ?_
          · rw [gI_sI, if_neg (by omega), S4.ia (68 + p') (by have : ∀ k : Fin 9, ([14, 58, 59] : List Nat).contains (68 + k.val) = false := by decide
                                                              exact this ⟨p', by omega⟩) (beq_no (by omega))]
            exact hall p' hp' k' hk'
          · rw [gI_sI, if_neg (by omega), S4.ia (68 + p) (by have : ∀ k : Fin 9, ([14, 58, 59] : List Nat).contains (68 + k.val) = false := by decide
                                                             exact this ⟨p, by omega⟩) (beq_no (by omega))]
            exact hrow k' hk'
          · rw [gI_sI, if_pos ⟨rfl, rfl⟩]; rfl
      refine hP _ _ _ _ ?_
      refine mcall (x_placeMany G g l (d+53) t T (hBx hS).1.2.2.1) (fun r s4 h9 => ?_)
      obtain ⟨rfl, e9⟩ := h9
      subst e9
      refine And.intro (fun q => absurd q (nI_ge (by omega) (by omega))) (fun _ => ?_)
      exact mid 24 0 s4 _ (by omega) hS hall (fun k' hk' => by omega)
  exact big (Tnp T) 0 s3 _ _ (by omega) xS.rf (fun p' hp' => by omega)
end DF_
