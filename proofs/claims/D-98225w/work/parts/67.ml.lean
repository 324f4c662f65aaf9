section ML
variable (G : CX) (g : GX) (l : Launch) (d : Nat) (σ : AS)
/-- bit s of an int -/
def hasB (x : Int32) (s : Nat) : Bool := decide (x >>> (nI s &&& 31) &&& nI 1 = nI 1)
def areWideF (T : Twn) (n : Nws) (x : Int32) (b hr : Nat) : Bool := (List.range (Tns T)).all (fun s => !hasB x s || decide (b ≤ wid T s (Nsh n s) hr))
set_option maxHeartbeats 1000000 in
theorem c_areWide (T : Twn) (n : Nws) (h : TN T n σ) (x y z : Int32) (b hr : Nat) (hy : y = nI b) (hz : z = nI hr) (hb : b ≤ 1000) (h1 : hr ≤ 900000) :
    MC G g l (d+6) mX6_areWide [tM, iv x, iv y, iv z] σ (fun r t => r = some (iv (bI (areWideF T n x b hr))) ∧ mS [43] [228, 229] σ t) := by
  subst hy; subst hz
  have h12 := h.1.1
  refine MC1 tX6_areWide [2, 21] rfl okX6_areWide rfl rfl rfl rfl (fun P hP => ?_)
  have key : ∀ (m s : Nat) (τ : AS), s + m = Tns T → mS [43] [228, 229] σ τ → (∀ j, j < s → (!hasB x j || decide (b ≤ wid T j (Nsh n j) hr)) = true) → P 2 [some tM, some (iv x), some (iv (nI b)), some (iv (nI hr)), some (iv (nI s))] [] τ := by
    intro m
    induction m with
    | zero =>
      intro s τ hm hS hall
      refine hP _ _ _ _ ?_
      refine mcall (c_streetMany G g l (d+4) τ) (fun r s' h9 => ?_)
      obtain ⟨rfl, rfl⟩ := h9
      rw [(h.2.2.1.keep hS rfl).2.1]
      refine And.intro (fun _ => ⟨nar1, ?_, hS⟩) (fun q => absurd (nI_le (by omega) (by omega)) q)
      have : areWideF T n x b hr = true := by
        unfold areWideF
        rw [List.all_eq_true]
        intro j hj
        exact hall j (by have := List.mem_range.mp hj; omega)
      rw [this]; rfl
    | succ m ih =>
      intro s τ hm hS hall
      have hs : s < Tns T := by omega
      have go : ∀ τ' : AS, mS [43] [228, 229] σ τ' → (!hasB x s || decide (b ≤ wid T s (Nsh n s) hr)) = true → P 21 [some tM, some (iv x), some (iv (nI b)), some (iv (nI hr)), some (iv (nI s))] [] τ' := by
        intro τ' a1 a2
        refine hP _ _ _ _ ?_
        show P 2 [some tM, some (iv x), some (iv (nI b)), some (iv (nI hr)), some (iv (nI s + nI 1))] [] τ'
        rw [nI_add]
        refine ih (s+1) τ' (by omega) a1 (fun j hj => ?_)
        by_cases e : j = s
        · rw [e]; exact a2
        · exact hall j (by omega)
      refine hP _ _ _ _ ?_
      refine mcall (c_streetMany G g l (d+4) τ) (fun r s' h9 => ?_)
      obtain ⟨rfl, rfl⟩ := h9
      rw [(h.2.2.1.keep hS rfl).2.1]
      refine And.intro (fun q => absurd q (nI_ge (by omega) (by omega))) (fun _ => And.intro (fun q => ?_) (fun q => ?_))
      · have e : hasB x s = false := decide_eq_false q
        exact go _ hS (by rw [e]; rfl)
      · have e : hasB x s = true := decide_eq_true q
        refine mcall (c_widthOf G g l d s' T n (h.keep hS rfl rfl) _ _ s hr rfl rfl hs (by omega)) (fun r s2 h9 => ?_)
        obtain ⟨rfl, h9⟩ := h9
        have hw := wid_le T s (Nsh n s) hr
        refine And.intro (fun q2 => ?_) (fun q2 => ⟨nar0, ?_, hS.tr h9⟩)
        · have q2 := (nI_leI (by omega) (by omega)).mp q2
          exact go _ (hS.tr h9) (by rw [decide_eq_true q2, Bool.or_true])
        · have q2 : ¬ b ≤ wid T s (Nsh n s) hr := fun q3 => q2 ((nI_leI (by omega) (by omega)).mpr q3)
          have : areWideF T n x b hr = false := by
            rw [Bool.eq_false_iff]
            intro hh
            have := List.all_eq_true.mp hh s (List.mem_range.mpr hs)
            rw [e, decide_eq_false q2] at this
            cases this
          rw [this]; rfl
  refine hP _ _ _ _ ?_
  exact key (Tns T) 0 σ (by omega) mS.rf (fun j hj => absurd hj (Nat.not_lt_zero _))
theorem shl1 {m : Nat} (h : m ≤ 12) : nI 1 <<< (nI m &&& 31) = nI (2 ^ m) := by
  have : m = 0 ∨ m = 1 ∨ m = 2 ∨ m = 3 ∨ m = 4 ∨ m = 5 ∨ m = 6 ∨ m = 7 ∨ m = 8 ∨ m = 9 ∨ m = 10 ∨ m = 11 ∨ m = 12 := by omega
  rcases this with rfl | rfl | rfl | rfl | rfl | rfl | rfl | rfl | rfl | rfl | rfl | rfl | rfl <;> decide
theorem pow12 {m : Nat} (h : m ≤ 12) : 1 ≤ 2 ^ m ∧ 2 ^ m ≤ 4096 := by
  have : m = 0 ∨ m = 1 ∨ m = 2 ∨ m = 3 ∨ m = 4 ∨ m = 5 ∨ m = 6 ∨ m = 7 ∨ m = 8 ∨ m = 9 ∨ m = 10 ∨ m = 11 ∨ m = 12 := by omega
  rcases this with rfl | rfl | rfl | rfl | rfl | rfl | rfl | rfl | rfl | rfl | rfl | rfl | rfl <;> decide
/-- a set of streets and a breadth -/
def okSetB (T : Twn) (a b : Int32) : Bool := btw a 1 (2 ^ Tns T - 1) && btw b 1 99
def q_wide (T : Twn) (n : Nws) (a b : Int32) : Int32 := if okSetB T a b = true then optI (firstF (fun h => areWideF T n a b.toNatClampNeg h) 401 (Nhr n)) else - nI 1
set_option maxHeartbeats 1000000 in
theorem c_wide (T : Twn) (n : Nws) (h : TN T n σ) (a b : Int32) : MC G g l (d+7) mX6_wide [tM, iv a, iv b] σ (fun r t => r = some (iv (q_wide T n a b)) ∧ mS [43] [228, 229] σ t) := by
  have h12 := h.1.1
  have hh := h.2.1.1
  have hp := pow12 (m := Tns T) (by omega)
  refine MC1 tX6_wide [18, 25] rfl okX6_wide rfl rfl rfl rfl (fun P hP => ?_)
  have no : okSetB T a b = false → P 18 [some tM, some (iv a), some (iv b), none] [] σ := by
    intro e
    exact hP _ _ _ _ ⟨by unfold q_wide; rw [if_neg (by rw [e]; decide)], mS.rf⟩
  refine hP _ _ _ _ ?_
  refine mcall (c_streetMany G g l (d+5) σ) (fun r s' h9 => ?_)
  obtain ⟨rfl, rfl⟩ := h9
  refine mcall (c_isIn G g l (d+5) _ _ _ _) (fun r s' h9 => ?_)
  obtain ⟨rfl, rfl⟩ := h9
  have e1 : (nI 1 <<< (gI s' 220 4 &&& 31) - nI 1).toInt64 = lN (2 ^ Tns T - 1) := by rw [h.2.2.1.2.1, shl1 (by omega), nI_s1 _ _ hp.1, nI_l (by omega)]
  rw [e1, btw_long (a := 1) (b := 2 ^ Tns T - 1) (by decide) (by omega)]
  cases ha : btw a 1 (2 ^ Tns T - 1) with
  | false => exact And.intro (fun _ => no (by unfold okSetB; rw [ha]; rfl)) (fun q => absurd rfl q)
  | true =>
    refine And.intro (fun q => absurd q (by decide)) (fun _ => ?_)
    refine mcall (c_isIn G g l (d+5) _ _ _ _) (fun r s' h9 => ?_)
    obtain ⟨rfl, rfl⟩ := h9
    rw [btw_long (a := 1) (b := 99) (by decide) (by decide)]
    cases hb : btw b 1 99 with
    | false => exact And.intro (fun q => absurd rfl q) (fun _ => no (by unfold okSetB; rw [ha, hb]; rfl))
    | true =>
      refine And.intro (fun _ => ?_) (fun q => absurd q (by decide))
      obtain ⟨br, -, hbr, rfl⟩ := btw_of hb (by decide)
      have e : q_wide T n a (nI br) = optI (firstF (fun h => areWideF T n a br h) 401 (Nhr n)) := by
        unfold q_wide
        rw [if_pos (by unfold okSetB; rw [ha, hb]; rfl), clN (by omega)]
      have key : ∀ (m k : Nat) (x : Int32) (τ : AS), x = nI k → k + m = Nhr n + 401 → mS [43] [228, 229] s' τ → firstF (fun h => areWideF T n a br h) 401 (Nhr n) = firstF (fun h => areWideF T n a br h) m k → P 25 [some tM, some (iv a), some (iv (nI br)), some (iv x)] [] τ := by
        intro m
        induction m with
        | zero =>
          intro k x τ hx hm hS hf
          subst hx
          refine hP _ _ _ _ (And.intro (vin 0 31 rfl rfl) (And.intro (fun _ => ⟨by rw [e, hf]; rfl, hS⟩) (fun q => ?_)))
          have q : ¬ gI τ 230 0 + nI 400 < nI k := q
          rw [(h.2.2.2.keep hS rfl).1, nI_add, nI_ltI (by omega) (by omega)] at q
          omega
        | succ m ih =>
          intro k x τ hx hm hS hf
          subst hx
          refine hP _ _ _ _ (And.intro (vin 0 31 rfl rfl) (And.intro (fun q => ?_) (fun _ => ?_)))
          · have q : gI τ 230 0 + nI 400 < nI k := q
            rw [(h.2.2.2.keep hS rfl).1, nI_add, nI_ltI (by omega) (by omega)] at q
            omega
          · refine mcall (c_areWide G g l d τ T n (h.keep hS rfl rfl) _ _ _ br k rfl rfl (by omega) (by omega)) (fun r s2 h9 => ?_)
            obtain ⟨rfl, h9⟩ := h9
            have hS2 := hS.tr h9
            cases hp : areWideF T n a br k with
            | true =>
              refine And.intro (fun q => absurd q (by decide)) (fun _ => ⟨?_, hS2⟩)
              rw [e, hf]
              unfold firstF
              rw [if_pos hp]
              rfl
            | false =>
              refine And.intro (fun _ => ?_) (fun q => absurd rfl q)
              refine ih (k+1) _ s2 (nI_add k 1) (by omega) hS2 ?_
              rw [hf]
              conv => lhs; unfold firstF
              rw [if_neg (by rw [hp]; decide)]
      refine And.intro (vin 0 31 rfl rfl) ?_
      exact key 401 (Nhr n) _ s' h.2.2.2.1 rfl mS.rf rfl
/-- a walker's way without others, from its end back -/
noncomputable def way0 (T : Twn) (n : Nws) (w : Nat) : List (Nat × Nat) := wayF T n [] 99 (Tbr T w) (EAw T n [] 99 w) (Nat_ n w) 9 (Nto n w)
noncomputable def q_way (T : Twn) (n : Nws) (a k : Int32) : Int32 := if inR a (Tnw T) = true ∧ EAw T n [] 99 a.toNatClampNeg (Nto n a.toNatClampNeg) ≠ NV then (if k = - nI 1 then nI (EAw T n [] 99 a.toNatClampNeg (Nto n a.toNatClampNeg)) else if k = nI 20 then nI (way0 T n a.toNatClampNeg).length else if inR k (way0 T n a.toNatClampNeg).length = true then nI (((way0 T n a.toNatClampNeg)[(way0 T n a.toNatClampNeg).length - 1 - k.toNatClampNeg]?).getD (0, 0)).1 else if btw k 100 (99 + (way0 T n a.toNatClampNeg).length) = true then nI (((way0 T n a.toNatClampNeg)[(way0 T n a.toNatClampNeg).length + 99 - k.toNatClampNeg]?).getD (0, 0)).2 else - nI 1) else - nI 1
set_option maxHeartbeats 2000000 in
theorem c_way (T : Twn) (n : Nws) (h : TN T n σ) (a k : Int32) : MC G g l (d+15) mX6_way [tM, iv a, iv k] σ (fun r t => r = some (iv (q_way T n a k)) ∧ mS [43, 47, 51] [228, 229, 232, 233, 234] σ t) := by
  have h12 := h.1.1
  refine MC1 tX6_way [8] rfl okX6_way rfl rfl rfl rfl (fun P hP => ?_)
  have no : ∀ τ, mS [43, 47, 51] [228, 229, 232, 233, 234] σ τ → ¬ (inR a (Tnw T) = true ∧ EAw T n [] 99 a.toNatClampNeg (Nto n a.toNatClampNeg) ≠ NV) → P 8 [some tM, some (iv a), some (iv k)] [] τ := by
    intro τ hS e
    exact hP _ _ _ _ ⟨by unfold q_way; rw [if_neg e], hS⟩
  refine hP _ _ _ _ ?_
  refine mcall (c_isWalker G g l (d+12) σ T a h.2.2.1 h.1) (fun r s' h9 => ?_)
  obtain ⟨rfl, rfl⟩ := h9
  cases ha : inR a (Tnw T) with
  | false => exact And.intro (fun _ => no _ mS.rf (by rw [ha]; simp)) (fun q => absurd rfl q)
  | true =>
    refine And.intro (fun q => absurd q (by decide)) (fun _ => ?_)
    obtain ⟨w, hw, rfl⟩ := inR_of ha (by omega)
    have cw : (nI w).toNatClampNeg = w := clN (by omega)
    have hat := at_np h.1 h.2.1 hw
    refine mcall (c_hasWay G g l d _ T n h _ w rfl hw) (fun r s2 h9 => ?_)
    obtain ⟨rfl, hS, -, hM, hE, hWy⟩ := h9
    by_cases hN : EAw T n [] 99 w (Nto n w) = NV
    · rw [decide_eq_false (fun e => e hN)]
      exact And.intro (fun q => absurd rfl q) (fun _ => no _ hS (by rw [cw]; exact fun e => e.2 hN))
    · rw [decide_eq_true hN]
      obtain ⟨hW, hl⟩ := hWy hN
      have eq : q_way T n (nI w) k = if k = - nI 1 then nI (EAw T n [] 99 w (Nto n w)) else if k = nI 20 then nI (way0 T n w).length else if inR k (way0 T n w).length = true then nI (((way0 T n w)[(way0 T n w).length - 1 - k.toNatClampNeg]?).getD (0, 0)).1 else if btw k 100 (99 + (way0 T n w).length) = true then nI (((way0 T n w)[(way0 T n w).length + 99 - k.toNatClampNeg]?).getD (0, 0)).2 else - nI 1 := by
        unfold q_way
        rw [cw, if_pos ⟨ha, hN⟩]
      rw [eq]
      have hW : MWay (way0 T n w) s2 := hW
      have hl : (way0 T n w).length ≤ 8 := hl
      have w51 := hW.1
      refine And.intro (fun _ => ?_) (fun q => absurd q (by decide))
      refine And.intro (fun q1 => And.intro (fun q2 => ?_) (fun q2 => ?_)) (fun q1 => ?_)
      · refine mcall (c_isIn G g l (d+13) _ _ _ _) (fun r s3 h9 => ?_)
        obtain ⟨rfl, rfl⟩ := h9
        have e1 : decide (lN 0 ≤ k.toInt64 ∧ k.toInt64 ≤ (gI s3 200 51 - nI 1).toInt64) = inR k (way0 T n w).length := inR_long (by omega) w51
        rw [e1]
        cases hk : inR k (way0 T n w).length with
        | true =>
          refine And.intro (fun q => absurd q (by decide)) (fun _ => ?_)
          obtain ⟨j, hj, rfl⟩ := inR_of hk (by omega)
          have ix : gI s3 200 51 - nI 1 - nI j = nI ((way0 T n w).length - 1 - j) := by rw [w51, nI_s1 _ _ (by omega), nI_s1 _ _ (by omega)]
          obtain ⟨x, hx⟩ : ∃ x, (way0 T n w)[(way0 T n w).length - 1 - j]? = some x := ⟨_, List.getElem?_eq_getElem (by omega)⟩
          refine And.intro (show vp_in (gI s3 200 51 - nI 1 - nI j) 12 by rw [ix]; exact vinN (by omega) (by decide)) ⟨?_, hS⟩
          show some (Sum.inl (gI s3 233 (gI s3 200 51 - nI 1 - nI j).toNatClampNeg)) = _
          rw [ix, clN (by omega), (hW.2 _ x hx).1, if_neg q1, if_neg q2, if_pos rfl, clN (by omega), hx]
          rfl
        | false =>
          refine And.intro (fun _ => ?_) (fun q => absurd rfl q)
          refine mcall (c_isIn G g l (d+13) _ _ _ _) (fun r s4 h9 => ?_)
          obtain ⟨rfl, rfl⟩ := h9
          have e2 : (nI 99 + gI s4 200 51).toInt64 = lN (99 + (way0 T n w).length) := by rw [w51, nI_add, nI_l (by omega)]
          rw [e2, btw_long (a := 100) (b := 99 + (way0 T n w).length) (by decide) (by omega)]
          cases hk2 : btw k 100 (99 + (way0 T n w).length) with
          | true =>
            refine And.intro (fun q => absurd q (by decide)) (fun _ => ?_)
            obtain ⟨j, hj1, hj2, rfl⟩ := btw_of hk2 (by omega)
            have ix : gI s4 200 51 + nI 99 - nI j = nI ((way0 T n w).length + 99 - j) := by rw [w51, nI_add, nI_s1 _ _ (by omega)]
            obtain ⟨x, hx⟩ : ∃ x, (way0 T n w)[(way0 T n w).length + 99 - j]? = some x := ⟨_, List.getElem?_eq_getElem (by omega)⟩
            refine And.intro (show vp_in (gI s4 200 51 + nI 99 - nI j) 12 by rw [ix]; exact vinN (by omega) (by decide)) ⟨?_, hS⟩
            show some (Sum.inl (gI s4 234 (gI s4 200 51 + nI 99 - nI j).toNatClampNeg)) = _
            rw [ix, clN (by omega), (hW.2 _ x hx).2, if_neg q1, if_neg q2, if_neg (by decide), if_pos rfl, clN (by omega), hx]
            rfl
          | false =>
            refine And.intro (fun _ => ⟨?_, hS⟩) (fun q => absurd rfl q)
            rw [if_neg q1, if_neg q2, if_neg (by decide), if_neg (by decide)]
      · have q2 : k = nI 20 := q2
        exact ⟨by rw [if_neg q1, if_pos q2]; exact congrArg _ (congrArg _ w51), hS⟩
      · have q1 : k = - nI 1 := q1
        refine mcall (c_goalOf G g l (d+13) _ T n (h.2.2.2.keep hS rfl) _ w rfl hw h.1) (fun r s3 h9 => ?_)
        obtain ⟨rfl, rfl⟩ := h9
        refine And.intro (show vp_in (nI (Nto n w)) 9 from vinN (by omega) (by decide)) ⟨?_, hS⟩
        show some (Sum.inl (gI s3 232 (nI (Nto n w)).toNatClampNeg)) = _
        rw [clN (by omega), hM _ hat.2.1, if_pos q1]
noncomputable def q_arrival (T : Twn) (n : Nws) (a p : Int32) : Int32 := if (inR a (Tnw T) && inR p (Tnp T)) = true ∧ EAw T n [] 99 a.toNatClampNeg p.toNatClampNeg ≠ NV then nI (EAw T n [] 99 a.toNatClampNeg p.toNatClampNeg) else - nI 1
set_option maxHeartbeats 1000000 in
theorem c_arrival (T : Twn) (n : Nws) (h : TN T n σ) (a p : Int32) : MC G g l (d+13) mX6_arrival [tM, iv a, iv p] σ (fun r t => r = some (iv (q_arrival T n a p)) ∧ mS [43, 47] [228, 229, 232] σ t) := by
  have h12 := h.1.1
  refine MC1 tX6_arrival [8] rfl okX6_arrival rfl rfl rfl rfl (fun P hP => ?_)
  have no : (inR a (Tnw T) && inR p (Tnp T)) = false → P 8 [some tM, some (iv a), some (iv p)] [] σ := by
    intro e
    exact hP _ _ _ _ ⟨by unfold q_arrival; rw [if_neg (by rw [e]; simp)], mS.rf⟩
  refine hP _ _ _ _ ?_
  refine mcall (c_isWalker G g l (d+10) σ T a h.2.2.1 h.1) (fun r s' h9 => ?_)
  obtain ⟨rfl, rfl⟩ := h9
  cases ha : inR a (Tnw T) with
  | false => exact And.intro (fun _ => no (by rw [ha]; rfl)) (fun q => absurd rfl q)
  | true =>
    refine And.intro (fun q => absurd q (by decide)) (fun _ => ?_)
    refine mcall (c_isPlaceT G g l (d+10) _ T p h.2.2.1 h.1) (fun r s' h9 => ?_)
    obtain ⟨rfl, rfl⟩ := h9
    cases hp : inR p (Tnp T) with
    | false => exact And.intro (fun q => absurd rfl q) (fun _ => no (by rw [hp, Bool.and_false]))
    | true =>
      refine And.intro (fun _ => ?_) (fun q => absurd q (by decide))
      obtain ⟨w, hw, rfl⟩ := inR_of ha (by omega)
      obtain ⟨p, hpp, rfl⟩ := inR_of hp (by omega)
      have S1 : mS [43, 47] [228, 229, 232] s' (sI s' 200 47 (nI 0)) := mS.rf.f rfl
      refine mcall (c_spreadsFor G g l d _ T n (h.keep S1 rfl rfl) [] ⟨rfl, by simp, fun k r hr => by simp at hr⟩ _ _ w 99 rfl hw (fun s hs => ⟨fun e => ?_, fun e => by omega⟩)) (fun r s2 h9 => ?_)
      · exfalso
        have := congrArg Int32.toInt e
        rw [nI_toInt (by omega)] at this
        have e1 : (-nI 1).toInt = -1 := by decide
        rw [e1] at this
        omega
      · obtain ⟨rfl, S2, hM, hE⟩ := h9
        have SS := S1.tr (S2.mono rfl rfl)
        have vp9 : vp_in (nI p) 9 := vinN (by omega) (by decide)
        have gp : gI s2 232 (nI p).toNatClampNeg = nI (EAw T n [] 99 w p) := by rw [clN (by omega), hM p hpp]
        have h9 := hE.2 p
        unfold NV at h9
        refine And.intro vp9 (And.intro (fun q => And.intro vp9 ⟨?_, SS⟩) (fun q => ⟨?_, SS⟩))
        · have q : ¬ gI s2 232 (nI p).toNatClampNeg = nI 1000000 := q
          rw [gp, nI_eq (by omega) (by omega)] at q
          show some (Sum.inl (gI s2 232 (nI p).toNatClampNeg)) = _
          rw [gp]
          unfold q_arrival
          rw [if_pos ⟨by rw [ha, hp]; rfl, by rw [clN (by omega), clN (by omega)]; exact q⟩, clN (by omega), clN (by omega)]
        · have q : gI s2 232 (nI p).toNatClampNeg = nI 1000000 := q
          rw [gp, nI_eq (by omega) (by omega)] at q
          unfold q_arrival
          rw [if_neg (fun e => e.2 (by rw [clN (by omega), clN (by omega)]; exact q))]
end ML
