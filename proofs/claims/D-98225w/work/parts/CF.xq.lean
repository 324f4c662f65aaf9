/-! what is asked of streets, in the component -/
def XB (T : Twn) (n : Nws) (σ : AS) : Prop := XN T n σ ∧ XRd [] σ ∧ XGo 99 σ
theorem XB.xs {fs ids : List Nat} {T : Twn} {n : Nws} {σ s : AS} (h : XB T n σ) (hS : xS fs ids σ s) (hi : ids_q ids = true) (h9 : ([16, 17, 18, 19, 20].all (fun a => !ids.contains a)) = true) (h1 : ids.all (fun a => Nat.blt 0 a && Nat.blt a 22 || Nat.blt 57 a) = true) (h2 : (fs.contains 11 || fs.contains 12) = false) : XB T n s := by
  simp only [Bool.or_eq_false_iff] at h2
  refine ⟨h.1.xs hS hi h9, h.2.1.xs hS h1 h2.1, h.2.2.xs hS ?_ h2.2⟩
  cases hc : ids.contains 0 with
  | false => rfl
  | true =>
    have := List.all_eq_true.mp h1 0 (by simpa using hc)
    cases this
theorem free_pass (T : Twn) (n : Nws) (s b h : Nat) (hs : s < Tns T) (hT : TOK T) : (decide (s ≠ 99) && freeF T n [] s b h) = passF T n s b h := by
  have := hT.1
  rw [decide_eq_true (by omega : s ≠ 99), free_nil]
  rfl
section XQ_
variable (G : CX) (g : GX) (l : Launch) (d : Nat) (σ : AS)
theorem x_pass (T : Twn) (n : Nws) (h : XB T n σ) (x y z : Int32) (s b hr : Nat) (hx : x = nI s) (hy : y = nI b) (hz : z = nI hr) (hs : s < Tns T) (hb : b ≤ 1000) (h1 : hr ≤ 900000) :
    MC G g l (d+53) mX0_canPass [tX, iv x, iv y, iv z] σ (fun r t => r = some (iv (bI (passF T n s b hr))) ∧ xS [] [14] σ t) := by
  rw [← free_pass T n s b hr hs h.1.1]
  exact x_canPass G g l d σ T n h.1 [] h.2.1 99 h.2.2 x y z s b hr hx hy hz hs hb h1
theorem x_width (T : Twn) (n : Nws) (h : XN T n σ) (a b : Int32) : MC G g l (d+52) mX0_width [tX, iv a, iv b] σ (fun r t => r = some (iv (q_width T n a b)) ∧ xS [] [14] σ t) := by
  have h12 := h.1.1
  refine MC0 tX0_width rfl okX0_width rfl rfl rfl rfl (fun P => ?_)
  refine mcall (x_isStreet G g l (d+48) σ T a h.2.2.1 h.1) (fun r s' h9 => ?_)
  obtain ⟨rfl, rfl⟩ := h9
  cases ha : inR a (Tns T) with
  | false => exact And.intro (fun _ => ⟨by unfold q_width; rw [if_neg (by rw [ha]; simp)], xS.rf⟩) (fun q => absurd rfl q)
  | true =>
    refine And.intro (fun q => absurd q (by decide)) (fun _ => ?_)
    refine mcall (x_btw G g l (d+50) _ b _ _ 0 99999 rfl rfl (by decide) (by decide)) (fun r s' h9 => ?_)
    obtain ⟨rfl, rfl⟩ := h9
    cases hb : btw b 0 99999 with
    | false => exact And.intro (fun _ => ⟨by unfold q_width; rw [if_neg (by rw [hb]; simp)], xS.rf⟩) (fun q => absurd rfl q)
    | true =>
      refine And.intro (fun q => absurd q (by decide)) (fun _ => ?_)
      obtain ⟨s, hs, rfl⟩ := inR_of ha (by omega)
      obtain ⟨hr, -, hh, rfl⟩ := btw_of hb (by decide)
      refine mcall (x_widthIn G g l d _ T n h _ _ s hr rfl rfl hs (by omega)) (fun r s' h9 => ?_)
      obtain ⟨rfl, h9⟩ := h9
      refine ⟨?_, h9⟩
      unfold q_width
      rw [if_pos ⟨ha, hb⟩, clN (by omega), clN (by omega)]
set_option maxHeartbeats 1000000 in
theorem x_passes (T : Twn) (n : Nws) (h : XB T n σ) (a b c : Int32) : MC G g l (d+54) mX0_passes [tX, iv a, iv b, iv c] σ (fun r t => r = some (iv (q_passes T n a b c)) ∧ xS [] [14] σ t) := by
  have h12 := h.1.1.1
  refine MC1 tX0_passes [12] rfl okX0_passes rfl rfl rfl rfl (fun P hP => ?_)
  have no : okSBH T a b c = false → P 12 [some tX, some (iv a), some (iv b), some (iv c)] [] σ := by
    intro e
    exact hP _ _ _ _ ⟨by unfold q_passes; rw [if_neg (by rw [e]; decide)], xS.rf⟩
  refine hP _ _ _ _ ?_
  refine mcall (x_isStreet G g l (d+50) σ T a h.1.2.2.1 h.1.1) (fun r s' h9 => ?_)
  obtain ⟨rfl, rfl⟩ := h9
  cases ha : inR a (Tns T) with
  | false => exact And.intro (fun _ => no (by unfold okSBH; rw [ha]; rfl)) (fun q => absurd rfl q)
  | true =>
    refine And.intro (fun q => absurd q (by decide)) (fun _ => ?_)
    refine mcall (x_isBroad G g l (d+51) _ b) (fun r s' h9 => ?_)
    obtain ⟨rfl, rfl⟩ := h9
    cases hb : btw b 1 99 with
    | false => exact And.intro (fun _ => no (by unfold okSBH; rw [ha, hb]; rfl)) (fun q => absurd rfl q)
    | true =>
      refine And.intro (fun q => absurd q (by decide)) (fun _ => ?_)
      refine mcall (x_btw G g l (d+52) _ c _ _ 0 99999 rfl rfl (by decide) (by decide)) (fun r s' h9 => ?_)
      obtain ⟨rfl, rfl⟩ := h9
      cases hc : btw c 0 99999 with
      | false => exact And.intro (fun q => absurd rfl q) (fun _ => no (by unfold okSBH; rw [ha, hb, hc]; rfl))
      | true =>
        refine And.intro (fun _ => ?_) (fun q => absurd q (by decide))
        obtain ⟨s, hs, rfl⟩ := inR_of ha (by omega)
        obtain ⟨br, -, hbr, rfl⟩ := btw_of hb (by decide)
        obtain ⟨hr, -, hh, rfl⟩ := btw_of hc (by decide)
        have hok : okSBH T (nI s) (nI br) (nI hr) = true := by unfold okSBH; rw [ha, hb, hc]; rfl
        have e : q_passes T n (nI s) (nI br) (nI hr) = bI (passF T n s br hr) := by
          unfold q_passes
          rw [if_pos hok, clN (by omega), clN (by omega), clN (by omega)]
        refine mcall (x_pass G g l d _ T n h _ _ _ s br hr rfl rfl rfl hs (by omega) (by omega)) (fun r s2 h9 => ?_)
        obtain ⟨rfl, h9⟩ := h9
        cases hp : passF T n s br hr with
        | false => exact And.intro (fun _ => ⟨by rw [e, hp]; rfl, h9⟩) (fun q => absurd rfl q)
        | true => exact And.intro (fun q => absurd q (by decide)) (fun _ => ⟨by rw [e, hp]; rfl, h9⟩)
set_option maxHeartbeats 1000000 in
theorem x_next (T : Twn) (n : Nws) (h : XB T n σ) (a b c : Int32) : MC G g l (d+54) mX0_next [tX, iv a, iv b, iv c] σ (fun r t => r = some (iv (q_next T n a b c)) ∧ xS [] [14] σ t) := by
  have h12 := h.1.1.1
  refine MC1 tX0_next [12, 16] rfl okX0_next rfl rfl rfl rfl (fun P hP => ?_)
  have no : okSBH T a b c = false → P 12 [some tX, some (iv a), some (iv b), some (iv c), none] [] σ := by
    intro e
    exact hP _ _ _ _ ⟨by unfold q_next; rw [if_neg (by rw [e]; decide)], xS.rf⟩
  refine hP _ _ _ _ ?_
  refine mcall (x_isStreet G g l (d+50) σ T a h.1.2.2.1 h.1.1) (fun r s' h9 => ?_)
  obtain ⟨rfl, rfl⟩ := h9
  cases ha : inR a (Tns T) with
  | false => exact And.intro (fun _ => no (by unfold okSBH; rw [ha]; rfl)) (fun q => absurd rfl q)
  | true =>
    refine And.intro (fun q => absurd q (by decide)) (fun _ => ?_)
    refine mcall (x_isBroad G g l (d+51) _ b) (fun r s' h9 => ?_)
    obtain ⟨rfl, rfl⟩ := h9
    cases hb : btw b 1 99 with
    | false => exact And.intro (fun _ => no (by unfold okSBH; rw [ha, hb]; rfl)) (fun q => absurd rfl q)
    | true =>
      refine And.intro (fun q => absurd q (by decide)) (fun _ => ?_)
      refine mcall (x_btw G g l (d+52) _ c _ _ 0 99999 rfl rfl (by decide) (by decide)) (fun r s' h9 => ?_)
      obtain ⟨rfl, rfl⟩ := h9
      cases hc : btw c 0 99999 with
      | false => exact And.intro (fun q => absurd rfl q) (fun _ => no (by unfold okSBH; rw [ha, hb, hc]; rfl))
      | true =>
        refine And.intro (fun _ => ?_) (fun q => absurd q (by decide))
        obtain ⟨s, hs, rfl⟩ := inR_of ha (by omega)
        obtain ⟨br, -, hbr, rfl⟩ := btw_of hb (by decide)
        obtain ⟨hr, -, hh, rfl⟩ := btw_of hc (by decide)
        have hok : okSBH T (nI s) (nI br) (nI hr) = true := by unfold okSBH; rw [ha, hb, hc]; rfl
        have e : q_next T n (nI s) (nI br) (nI hr) = optI (firstF (passF T n s br) 401 hr) := by
          unfold q_next
          rw [if_pos hok, clN (by omega), clN (by omega), clN (by omega)]
        have key : ∀ (m k : Nat) (τ : AS), k + m = hr + 401 → xS [] [14] s' τ → firstF (passF T n s br) 401 hr = firstF (passF T n s br) m k → P 16 [some tX, some (iv (nI s)), some (iv (nI br)), some (iv (nI hr)), some (iv (nI k))] [] τ := by
          intro m
          induction m with
          | zero =>
            intro k τ hm hS hf
            refine hP _ _ _ _ (And.intro (fun _ => ⟨by rw [e, hf]; rfl, hS⟩) (fun q => ?_))
            have q := Int32.not_lt.mp q
            rw [nI_add, nI_leI (by omega) (by omega)] at q
            omega
          | succ m ih =>
            intro k τ hm hS hf
            refine hP _ _ _ _ (And.intro (fun q => ?_) (fun _ => ?_))
            · have q := Int32.not_le.mpr q
              rw [nI_add, nI_leI (by omega) (by omega)] at q
              omega
            · refine mcall (x_pass G g l d τ T n (h.xs hS rfl rfl rfl rfl) _ _ _ s br k rfl rfl rfl hs (by omega) (by omega)) (fun r s2 h9 => ?_)
              obtain ⟨rfl, h9⟩ := h9
              have hS2 := hS.tr h9
              cases hp : passF T n s br k with
              | true =>
                refine And.intro (fun q => absurd q (by decide)) (fun _ => ⟨?_, hS2⟩)
                rw [e, hf]
                unfold firstF
                rw [if_pos hp]
                rfl
              | false =>
                refine And.intro (fun _ => ?_) (fun q => absurd rfl q)
                show P 16 [some tX, some (iv (nI s)), some (iv (nI br)), some (iv (nI hr)), some (iv (nI k + nI 1))] [] s2
                rw [nI_add]
                refine ih (k+1) s2 (by omega) hS2 ?_
                rw [hf]
                conv => lhs; unfold firstF
                rw [if_neg (by rw [hp]; decide)]
        exact key 401 hr s' rfl xS.rf rfl
set_option maxHeartbeats 1000000 in
theorem x_often (T : Twn) (n : Nws) (h : XB T n σ) (a b c e : Int32) : MC G g l (d+54) mX0_often [tX, iv a, iv b, iv c, iv e] σ (fun r t => r = some (iv (q_often T n a b c e)) ∧ xS [] [14] σ t) := by
  have h12 := h.1.1.1
  refine MC1 tX0_often [17, 23, 38] rfl okX0_often rfl rfl rfl rfl (fun P hP => ?_)
  have no : (okSBH T a b c && btw e 1 1000) = false → P 17 [some tX, some (iv a), some (iv b), some (iv c), some (iv e), none, none] [] σ := by
    intro e9
    exact hP _ _ _ _ ⟨by unfold q_often; rw [if_neg (by rw [e9]; decide)], xS.rf⟩
  refine hP _ _ _ _ ?_
  refine mcall (x_isStreet G g l (d+50) σ T a h.1.2.2.1 h.1.1) (fun r s' h9 => ?_)
  obtain ⟨rfl, rfl⟩ := h9
  cases ha : inR a (Tns T) with
  | false => exact And.intro (fun _ => no (by unfold okSBH; rw [ha]; rfl)) (fun q => absurd rfl q)
  | true =>
    refine And.intro (fun q => absurd q (by decide)) (fun _ => ?_)
    refine mcall (x_isBroad G g l (d+51) _ b) (fun r s' h9 => ?_)
    obtain ⟨rfl, rfl⟩ := h9
    cases hb : btw b 1 99 with
    | false => exact And.intro (fun _ => no (by unfold okSBH; rw [ha, hb]; rfl)) (fun q => absurd rfl q)
    | true =>
      refine And.intro (fun q => absurd q (by decide)) (fun _ => ?_)
      refine mcall (x_btw G g l (d+52) _ c _ _ 0 99999 rfl rfl (by decide) (by decide)) (fun r s' h9 => ?_)
      obtain ⟨rfl, rfl⟩ := h9
      cases hc : btw c 0 99999 with
      | false => exact And.intro (fun _ => no (by unfold okSBH; rw [ha, hb, hc]; rfl)) (fun q => absurd rfl q)
      | true =>
        refine And.intro (fun q => absurd q (by decide)) (fun _ => ?_)
        refine mcall (x_btw G g l (d+52) _ e _ _ 1 1000 rfl rfl (by decide) (by decide)) (fun r s' h9 => ?_)
        obtain ⟨rfl, rfl⟩ := h9
        cases he : btw e 1 1000 with
        | false => exact And.intro (fun q => absurd rfl q) (fun _ => no (by rw [he, Bool.and_false]))
        | true =>
          refine And.intro (fun _ => ?_) (fun q => absurd q (by decide))
          obtain ⟨s, hs, rfl⟩ := inR_of ha (by omega)
          obtain ⟨br, -, hbr, rfl⟩ := btw_of hb (by decide)
          obtain ⟨hr, -, hh, rfl⟩ := btw_of hc (by decide)
          obtain ⟨k9, hk1, hk9, rfl⟩ := btw_of he (by decide)
          have hok : (okSBH T (nI s) (nI br) (nI hr) && btw (nI k9) 1 1000) = true := by unfold okSBH; rw [ha, hb, hc, he]; rfl
          have eq : q_often T n (nI s) (nI br) (nI hr) (nI k9) = nI (countF (passF T n s br) k9 hr) := by
            unfold q_often
            rw [if_pos hok, clN (by omega), clN (by omega), clN (by omega), clN (by omega)]
          have key : ∀ (m k v : Nat) (τ : AS), k + m = hr + k9 → xS [] [14] s' τ → v + countF (passF T n s br) m k = countF (passF T n s br) k9 hr → v ≤ k → P 23 [some tX, some (iv (nI s)), some (iv (nI br)), some (iv (nI hr)), some (iv (nI k9)), some (iv (nI v)), some (iv (nI k))] [] τ := by
            intro m
            induction m with
            | zero =>
              intro k v τ hm hS hf hv
              refine hP _ _ _ _ (And.intro (fun _ => ⟨?_, hS⟩) (fun q => ?_))
              · rw [eq, ← hf]; rfl
              · exact absurd (by rw [nI_add]; exact nI_le (by omega) (by omega)) q
            | succ m ih =>
              intro k v τ hm hS hf hv
              have go : ∀ (v' : Nat) (x : Int32) (τ' : AS), nI v + x = nI v' → xS [] [14] s' τ' → v' + countF (passF T n s br) m (k+1) = countF (passF T n s br) k9 hr → v' ≤ k + 1 → P 38 [some tX, some (iv (nI s)), some (iv (nI br)), some (iv (nI hr)), some (iv (nI k9)), some (iv (nI v)), some (iv (nI k))] [iv x, iv (nI v)] τ' := by
                intro v' x τ' a0 a1 a2 a3
                refine hP _ _ _ _ ?_
                show P 23 [some tX, some (iv (nI s)), some (iv (nI br)), some (iv (nI hr)), some (iv (nI k9)), some (iv (nI v + x)), some (iv (nI k + nI 1))] [] τ'
                rw [nI_add, a0]
                exact ih (k+1) v' τ' (by omega) a1 a2 a3
              refine hP _ _ _ _ (And.intro (fun q => ?_) (fun _ => ?_))
              · have q : nI hr + nI k9 ≤ nI k := q
                rw [nI_add, nI_leI (by omega) (by omega)] at q
                omega
              · refine mcall (x_pass G g l d τ T n (h.xs hS rfl rfl rfl rfl) _ _ _ s br k rfl rfl rfl hs (by omega) (by omega)) (fun r s2 h9 => ?_)
                obtain ⟨rfl, h9⟩ := h9
                have hS2 := hS.tr h9
                have hf2 : v + ((if passF T n s br k = true then 1 else 0) + countF (passF T n s br) m (k+1)) = countF (passF T n s br) k9 hr := hf
                cases hp : passF T n s br k with
                | true =>
                  refine And.intro (fun q => absurd q (by decide)) (fun _ => ?_)
                  rw [hp, if_pos rfl] at hf2
                  exact go (v+1) _ s2 (nI_add v 1) hS2 (by omega) (by omega)
                | false =>
                  refine And.intro (fun _ => ?_) (fun q => absurd rfl q)
                  rw [hp, if_neg (by decide)] at hf2
                  exact go v _ s2 (nI_add v 0) hS2 (by omega) (by omega)
          exact key k9 hr 0 s' rfl xS.rf (by omega) (Nat.zero_le _)
theorem x_has (x : Int32) (s : Nat) (y : Int32) (hy : y = nI s) : MC G g l (d+1) mX0_has [iv x, iv y] σ (fun r t => r = some (iv (bI (hasB x s))) ∧ t = σ) := by
  subst hy
  refine MC0 tX0_has rfl okX0_has rfl rfl rfl rfl (fun P => And.intro (fun q => ⟨nar0, ?_, rfl⟩) (fun q => ⟨nar1, ?_, rfl⟩))
  · rw [show hasB x s = false from decide_eq_false q]; rfl
  · rw [show hasB x s = true from decide_eq_true q]; rfl
set_option maxHeartbeats 1000000 in
theorem x_areWide (T : Twn) (n : Nws) (h : XN T n σ) (x y z : Int32) (b hr : Nat) (hy : y = nI b) (hz : z = nI hr) (hb : b ≤ 1000) (h1 : hr ≤ 900000) :
    MC G g l (d+52) mX0_areWide [tX, iv x, iv y, iv z] σ (fun r t => r = some (iv (bI (areWideF T n x b hr))) ∧ xS [] [14] σ t) := by
  subst hy; subst hz
  have h12 := h.1.1
  refine MC1 tX0_areWide [2, 18] rfl okX0_areWide rfl rfl rfl rfl (fun P hP => ?_)
  have key : ∀ (m s : Nat) (τ : AS), s + m = Tns T → xS [] [14] σ τ → (∀ j, j < s → (!hasB x j || decide (b ≤ wid T j (Nsh n j) hr)) = true) → P 2 [some tX, some (iv x), some (iv (nI b)), some (iv (nI hr)), some (iv (nI s))] [] τ := by
    intro m
    induction m with
    | zero =>
      intro s τ hm hS hall
      refine hP _ _ _ _ ?_
      refine mcall (x_streetMany G g l (d+49) τ T (h.2.2.1.xs hS rfl)) (fun r s' h9 => ?_)
      obtain ⟨rfl, rfl⟩ := h9
      refine And.intro (fun _ => ⟨nar1, ?_, hS⟩) (fun q => absurd (nI_le (by omega) (by omega)) q)
      have : areWideF T n x b hr = true := by
        unfold areWideF
        rw [List.all_eq_true]
        intro j hj
        exact hall j (by have := List.mem_range.mp hj; omega)
      rw [this]; rfl
    | succ m ih =>
      intro s τ hm hS hall
      have hs : s < Tns T := by omega
      have go : ∀ τ' : AS, xS [] [14] σ τ' → (!hasB x s || decide (b ≤ wid T s (Nsh n s) hr)) = true → P 18 [some tX, some (iv x), some (iv (nI b)), some (iv (nI hr)), some (iv (nI s))] [] τ' := by
        intro τ' a1 a2
        refine hP _ _ _ _ ?_
        show P 2 [some tX, some (iv x), some (iv (nI b)), some (iv (nI hr)), some (iv (nI s + nI 1))] [] τ'
        rw [nI_add]
        refine ih (s+1) τ' (by omega) a1 (fun j hj => ?_)
        by_cases e : j = s
        · rw [e]; exact a2
        · exact hall j (by omega)
      refine hP _ _ _ _ ?_
      refine mcall (x_streetMany G g l (d+49) τ T (h.2.2.1.xs hS rfl)) (fun r s' h9 => ?_)
      obtain ⟨rfl, rfl⟩ := h9
      refine And.intro (fun q => absurd q (nI_ge (by omega) (by omega))) (fun _ => ?_)
      refine mcall (x_has G g l (d+50) s' x s _ rfl) (fun r s2 h9 => ?_)
      obtain ⟨rfl, rfl⟩ := h9
      cases e : hasB x s with
      | false => exact And.intro (fun _ => go _ hS (by rw [e]; rfl)) (fun q => absurd rfl q)
      | true =>
        refine And.intro (fun q => absurd q (by decide)) (fun _ => ?_)
        refine mcall (x_widthIn G g l d s2 T n (h.xs hS rfl rfl) _ _ s hr rfl rfl hs (by omega)) (fun r s3 h9 => ?_)
        obtain ⟨rfl, h9⟩ := h9
        have hw := wid_le T s (Nsh n s) hr
        refine And.intro (fun q2 => ?_) (fun q2 => ⟨nar0, ?_, hS.tr h9⟩)
        · have q2 := (nI_leI (by omega) (by omega)).mp q2
          exact go _ (hS.tr h9) (by rw [decide_eq_true q2, Bool.or_true])
        · have q2 : ¬ b ≤ wid T s (Nsh n s) hr := fun q3 => q2 ((nI_leI (by omega) (by omega)).mpr q3)
          have : areWideF T n x b hr = false := by
            rw [Bool.eq_false_iff]
            intro hh
            have := List.all_eq_true.mp hh s (List.mem_range.mpr hs)
            rw [e, decide_eq_false q2] at this
            cases this
          rw [this]; rfl
  refine hP _ _ _ _ ?_
  exact key (Tns T) 0 σ (by omega) xS.rf (fun j hj => absurd hj (Nat.not_lt_zero _))
set_option maxHeartbeats 1000000 in
theorem x_wide (T : Twn) (n : Nws) (h : XN T n σ) (a b : Int32) : MC G g l (d+53) mX0_wide [tX, iv a, iv b] σ (fun r t => r = some (iv (q_wide T n a b)) ∧ xS [] [14] σ t) := by
  have h12 := h.1.1
  have hh := h.2.1.1
  have hp := pow12 (m := Tns T) (by omega)
  refine MC1 tX0_wide [14, 20] rfl okX0_wide rfl rfl rfl rfl (fun P hP => ?_)
  have no : okSetB T a b = false → P 14 [some tX, some (iv a), some (iv b), none] [] σ := by
    intro e
    exact hP _ _ _ _ ⟨by unfold q_wide; rw [if_neg (by rw [e]; decide)], xS.rf⟩
  refine hP _ _ _ _ ?_
  refine And.intro (fun q => no ?_) (fun q => ?_)
  · have q : a < nI 1 := q
    rw [Int32.lt_iff_toInt_lt, nI_toInt (by omega)] at q
    unfold okSetB btw
    rw [decide_eq_false (by omega)]
    rfl
  have q : ¬ a < nI 1 := q
  rw [Int32.lt_iff_toInt_lt, nI_toInt (by omega)] at q
  refine mcall (x_streetMany G g l (d+50) σ T h.2.2.1) (fun r s' h9 => ?_)
  obtain ⟨rfl, rfl⟩ := h9
  refine And.intro (fun q2 => no ?_) (fun q2 => ?_)
  · have q2 : nI 1 <<< (nI (Tns T) &&& 31) ≤ a := q2
    rw [shl1 (by omega), Int32.le_iff_toInt_le, nI_toInt (by omega)] at q2
    unfold okSetB btw
    rw [decide_eq_false (by omega)]
    rfl
  have q2 : ¬ nI 1 <<< (nI (Tns T) &&& 31) ≤ a := q2
  rw [shl1 (by omega), Int32.le_iff_toInt_le, nI_toInt (by omega)] at q2
  have ha : btw a 1 (2 ^ Tns T - 1) = true := by
    unfold btw
    exact decide_eq_true (by omega)
  refine mcall (x_btw G g l (d+51) _ b _ _ 1 99 rfl rfl (by decide) (by decide)) (fun r s' h9 => ?_)
  obtain ⟨rfl, rfl⟩ := h9
  cases hb : btw b 1 99 with
  | false => exact And.intro (fun q => absurd rfl q) (fun _ => no (by unfold okSetB; rw [ha, hb]; rfl))
  | true =>
    refine And.intro (fun _ => ?_) (fun q => absurd q (by decide))
    obtain ⟨br, -, hbr, rfl⟩ := btw_of hb (by decide)
    have e : q_wide T n a (nI br) = optI (firstF (fun h => areWideF T n a br h) 401 (Nhr n)) := by
      unfold q_wide
      rw [if_pos (by unfold okSetB; rw [ha, hb]; rfl), clN (by omega)]
    have key : ∀ (m k : Nat) (x : Int32) (τ : AS), x = nI k → k + m = Nhr n + 401 → xS [] [14] s' τ → firstF (fun h => areWideF T n a br h) 401 (Nhr n) = firstF (fun h => areWideF T n a br h) m k → P 20 [some tX, some (iv a), some (iv (nI br)), some (iv x)] [] τ := by
      intro m
      induction m with
      | zero =>
        intro k x τ hx hm hS hf
        subst hx
        refine hP _ _ _ _ (And.intro (fun _ => ⟨by rw [e, hf]; rfl, hS⟩) (fun q => ?_))
        have q : ¬ gI τ 16 0 + nI 400 < nI k := q
        rw [(h.2.2.2.xs hS rfl).1, nI_add, nI_ltI (by omega) (by omega)] at q
        omega
      | succ m ih =>
        intro k x τ hx hm hS hf
        subst hx
        refine hP _ _ _ _ (And.intro (fun q => ?_) (fun _ => ?_))
        · have q : gI τ 16 0 + nI 400 < nI k := q
          rw [(h.2.2.2.xs hS rfl).1, nI_add, nI_ltI (by omega) (by omega)] at q
          omega
        · refine mcall (x_areWide G g l d τ T n (h.xs hS rfl rfl) _ _ _ br k rfl rfl (by omega) (by omega)) (fun r s2 h9 => ?_)
          obtain ⟨rfl, h9⟩ := h9
          have hS2 := hS.tr h9
          cases hp : areWideF T n a br k with
          | true =>
            refine And.intro (fun q => absurd q (by decide)) (fun _ => ⟨?_, hS2⟩)
            rw [e, hf]
            unfold firstF
            rw [if_pos hp]
            rfl
          | false =>
            refine And.intro (fun _ => ?_) (fun q => absurd rfl q)
            refine ih (k+1) _ s2 (nI_add k 1) (by omega) hS2 ?_
            rw [hf]
            conv => lhs; unfold firstF
            rw [if_neg (by rw [hp]; decide)]
    exact key 401 (Nhr n) _ s' h.2.2.2.1 rfl xS.rf rfl
end XQ_
