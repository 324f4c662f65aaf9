section MU
variable (G : CX) (g : GX) (l : Launch) (d : Nat) (σ : AS)
def anyR (p : Nat → Bool) : Nat → Nat → Bool
  | 0, _ => false
  | m+1, j => p j || anyR p m (j+1)
/-- the hour that tells most -/
def tell1 (al : Nat → Nat) (j : Nat) (b : Option (Nat × Nat)) : Option (Nat × Nat) := match b with
  | none => some (j, al j)
  | some x => if al j < x.2 then some (j, al j) else some x
def tellI (b : Int32) (o : Option (Nat × Nat)) : Int32 := match o with
  | none => - nI 1
  | some x => if b = nI 0 then nI x.1 else nI x.2
def tellF (al : Nat → Nat) : Nat → Nat → Option (Nat × Nat) → Option (Nat × Nat)
  | 0, _, b => b
  | m+1, j, b => tellF al m (j+1) (tell1 al j b)
def okTell (T : Twn) (ss : List Sig) (a b : Int32) : Bool := inR a (Tns T) && (btw b 0 1 && anyR (fitF T ss a.toNatClampNeg) (Trd T a.toNatClampNeg) 0)
def q_telling (T : Twn) (n : Nws) (ss : List Sig) (a b : Int32) : Int32 := if okTell T ss a b = true then tellI b (tellF (alike0 T ss a.toNatClampNeg) (Trd T a.toNatClampNeg) (Nhr n) none) else - nI 1
theorem alikeF_le (p : Nat → Bool) (wd : Nat → Nat) : ∀ (m j : Nat) (f : Nat → Nat) (mo : Nat), (∀ v, f v ≤ j) → mo ≤ j → alikeF p wd m j f mo ≤ j + m
  | 0, j, f, mo, _, h => h
  | m+1, j, f, mo, hf, h => by
    unfold alikeF
    split
    · have := alikeF_le p wd m (j+1) (fun v => if v = wd j then f v + 1 else f v) (if mo < f (wd j) + 1 then f (wd j) + 1 else mo) (fun v => by
        show (if v = wd j then f v + 1 else f v) ≤ j + 1
        have := hf v
        split <;> omega) (by have := hf (wd j); split <;> omega)
      omega
    · have := alikeF_le p wd m (j+1) f mo (fun v => by have := hf v; omega) (by omega)
      omega
def bestI (b : Option (Nat × Nat)) : Int32 := match b with
  | none => - nI 1
  | some x => nI x.1
def leastI (b : Option (Nat × Nat)) : Int32 := match b with
  | none => nI 0
  | some x => nI x.2
set_option maxHeartbeats 2000000 in
theorem c_telling (T : Twn) (n : Nws) (h : TN T n σ) (ss : List Sig) (hs : MSi ss σ) (a b : Int32) : MC G g l (d+6) mX6_telling [tM, iv a, iv b] σ (fun r t => r = some (iv (q_telling T n ss a b)) ∧ mS [43] [228, 229, 244, 245] σ t) := by
  have hT := h.1
  have h12 := h.1.1
  have hh := h.2.1.1
  refine MC1 tX6_telling [10, 16, 36, 39, 52, 74, 83] rfl okX6_telling rfl rfl rfl rfl (fun P hP => ?_)
  have no : okTell T ss a b = false → P 10 [some tM, some (iv a), some (iv b), none, none, none, none, none] [] σ := by
    intro e
    refine hP _ _ _ _ ⟨?_, mS.rf⟩
    unfold q_telling
    rw [if_neg (by rw [e]; decide)]
  refine hP _ _ _ _ ?_
  refine mcall (c_isStreet G g l (d+3) σ T a h.2.2.1 hT) (fun r s' h9 => ?_)
  obtain ⟨rfl, rfl⟩ := h9
  cases ha : inR a (Tns T) with
  | false => exact And.intro (fun _ => no (by unfold okTell; rw [ha]; rfl)) (fun q => absurd rfl q)
  | true =>
    refine And.intro (fun q => absurd q (by decide)) (fun _ => ?_)
    refine mcall (c_isIn G g l (d+4) s' _ _ _) (fun r s2 h9 => ?_)
    obtain ⟨rfl, rfl⟩ := h9
    rw [btw_long (a := 0) (b := 1) (by decide) (by decide)]
    cases hb : btw b 0 1 with
    | false => exact And.intro (fun q => absurd rfl q) (fun _ => no (by unfold okTell; rw [ha, hb]; rfl))
    | true =>
      refine And.intro (fun _ => ?_) (fun q => absurd q (by decide))
      obtain ⟨s, hs1, rfl⟩ := inR_of ha (by omega)
      have cs : (nI s).toNatClampNeg = s := clN (by omega)
      have hr := (hT.2.1 s hs1).2.2.2.2.1
      have eo : okTell T ss (nI s) b = anyR (fitF T ss s) (Trd T s) 0 := by unfold okTell; rw [ha, hb, cs]; rfl
      have key2 : okTell T ss (nI s) b = true → ∀ (m k : Nat) (bb : Option (Nat × Nat)) (x7 : Option AV) (τ : AS), k + m = Trd T s → (bb = none → k = 0) → (∀ x, bb = some x → x.1 ≤ 20000 ∧ x.2 ≤ 1000) → mS [43] [228, 229, 244, 245] s2 τ → (∀ j, j < Trd T s → gI τ 244 j = bI (fitF T ss s j)) → tellF (alike0 T ss s) (Trd T s) (Nhr n) none = tellF (alike0 T ss s) m (Nhr n + k) bb → ∀ (x3 : Int32), P 52 [some tM, some (iv (nI s)), some (iv b), some (iv x3), some (iv (bestI bb)), some (iv (leastI bb)), some (iv (nI k)), x7] [] τ := by
        intro ok m
        induction m with
        | zero =>
          intro k bb x7 τ hm hbn hbx hS hC he x3
          refine hP _ _ _ _ ?_
          refine mcall (c_roundOf G g l (d+4) τ T (h.2.2.1.keep hS rfl) _ s rfl hs1 hT) (fun r s3 h9 => ?_)
          obtain ⟨rfl, rfl⟩ := h9
          have hk : k = Trd T s := by omega
          subst hk
          have he2 : q_telling T n ss (nI s) b = tellI b bb := by
            unfold q_telling
            rw [if_pos ok, cs, he]
            rfl
          cases bb with
          | none => have := hbn rfl; omega
          | some x =>
            refine And.intro (fun _ => And.intro (fun q => ⟨?_, hS⟩) (fun q => ⟨?_, hS⟩)) (fun q => absurd (Int32.le_refl _) q)
            · have q : ¬ b = nI 0 := q
              rw [he2]
              show _ = some (iv (if b = nI 0 then nI x.1 else nI x.2))
              rw [if_neg q]
              rfl
            · have q : b = nI 0 := q
              rw [he2]
              show _ = some (iv (if b = nI 0 then nI x.1 else nI x.2))
              rw [if_pos q]
              rfl
        | succ m ih =>
          intro k bb x7 τ hm hbn hbx hS hC he x3
          refine hP _ _ _ _ ?_
          refine mcall (c_roundOf G g l (d+4) τ T (h.2.2.1.keep hS rfl) _ s rfl hs1 hT) (fun r s3 h9 => ?_)
          obtain ⟨rfl, rfl⟩ := h9
          have g0 : gI s3 230 0 = nI (Nhr n) := (h.2.2.2.keep hS rfl).1
          refine And.intro (fun q => absurd q (nI_ge (by omega) (by omega))) (fun _ => And.intro (vin 0 31 rfl rfl) ?_)
          refine mcall (c_alikeIn G g l d s3 T (h.2.2.1.keep hS rfl) hT ss _ (gI s3 230 0 + nI k) s (Nhr n + k) rfl (by rw [g0, nI_add]) hs1 (by omega) hC) (fun r s4 h9 => ?_)
          obtain ⟨rfl, hS2⟩ := h9
          have hS3 := hS.tr (hS2.mono rfl rfl)
          have hC4 : ∀ j, j < Trd T s → gI s4 244 j = bI (fitF T ss s j) := fun j hj => by rw [hS2.ia 244 rfl rfl]; exact hC j hj
          have hal : alike0 T ss s (Nhr n + k) ≤ 48 := by
            have := alikeF_le (fitF T ss s) (fun sh => wid T s sh (Nhr n + k)) (Trd T s) 0 (fun _ => 0) 0 (fun _ => Nat.le_refl _) (Nat.le_refl _)
            unfold alike0
            omega
          have go : ∀ bb', (bb' = none → k + 1 = 0) → (∀ x, bb' = some x → x.1 ≤ 20000 ∧ x.2 ≤ 1000) → tell1 (alike0 T ss s) (Nhr n + k) bb = bb' → P 83 [some tM, some (iv (nI s)), some (iv b), some (iv x3), some (iv (bestI bb')), some (iv (leastI bb')), some (iv (nI k)), some (iv (nI (alike0 T ss s (Nhr n + k))))] [] s4 := by
            intro bb' b1 b2 b3
            refine hP _ _ _ _ ?_
            show P 52 [some tM, some (iv (nI s)), some (iv b), some (iv x3), some (iv (bestI bb')), some (iv (leastI bb')), some (iv (nI k + nI 1)), some (iv (nI (alike0 T ss s (Nhr n + k))))] [] s4
            rw [nI_add]
            refine ih (k+1) bb' _ s4 (by omega) b1 b2 hS3 hC4 ?_ x3
            rw [he, ← b3]
            rfl
          have new : tell1 (alike0 T ss s) (Nhr n + k) bb = some (Nhr n + k, alike0 T ss s (Nhr n + k)) → ∀ (x4 x5 : Int32), P 74 [some tM, some (iv (nI s)), some (iv b), some (iv x3), some (iv x4), some (iv x5), some (iv (nI k)), some (iv (nI (alike0 T ss s (Nhr n + k))))] [] s4 := by
            intro b3 x4 x5
            have := go (some (Nhr n + k, alike0 T ss s (Nhr n + k))) (fun e => by cases e) (fun x e => by cases e; exact ⟨by show Nhr n + k ≤ 20000; omega, by show alike0 T ss s (Nhr n + k) ≤ 1000; omega⟩) b3
            refine hP _ _ _ _ (And.intro (vin 0 31 rfl rfl) ?_)
            have g1 : gI s4 230 0 + nI k = nI (Nhr n + k) := by rw [hS2.ia 230 rfl rfl, g0, nI_add]
            show P 83 [some tM, some (iv (nI s)), some (iv b), some (iv x3), some (iv (gI s4 230 0 + nI k)), some (iv (nI (alike0 T ss s (Nhr n + k)))), some (iv (nI k)), some (iv (nI (alike0 T ss s (Nhr n + k))))] [] s4
            rw [g1]
            exact this
          cases bb with
          | none => exact And.intro (fun _ => new rfl _ _) (fun q => absurd rfl q)
          | some x =>
            obtain ⟨x1, x2⟩ := hbx x rfl
            refine And.intro (fun q => ?_) (fun _ => And.intro (fun q => ?_) (fun q => ?_))
            · have q : nI x.1 = - nI 1 := q
              have q2 := congrArg Int32.toInt q
              rw [nI_toInt (by omega)] at q2
              have q2 : (x.1 : Int) = -1 := q2
              omega
            · have q : nI (alike0 T ss s (Nhr n + k)) < nI x.2 := q
              rw [nI_ltI (by omega) (by omega)] at q
              exact new (by show (if _ then _ else _) = _; rw [if_pos q]) _ _
            · have q : ¬ nI (alike0 T ss s (Nhr n + k)) < nI x.2 := q
              rw [nI_ltI (by omega) (by omega)] at q
              exact go (some x) (fun e => by cases e) hbx (by show (if _ then _ else _) = _; rw [if_neg q])
      have key1 : ∀ (m j : Nat) (an : Bool) (τ : AS), j + m = Trd T s → okTell T ss (nI s) b = (an || anyR (fitF T ss s) m j) → mS [43] [228, 229, 244, 245] s2 τ → (∀ i, i < j → gI τ 244 i = bI (fitF T ss s i)) → P 16 [some tM, some (iv (nI s)), some (iv b), some (iv (bI an)), some (iv (nI j)), none, none, none] [] τ := by
        intro m
        induction m with
        | zero =>
          intro j an τ hm he hS hC
          refine hP _ _ _ _ ?_
          refine mcall (c_roundOf G g l (d+4) τ T (h.2.2.1.keep hS rfl) _ s rfl hs1 hT) (fun r s3 h9 => ?_)
          obtain ⟨rfl, rfl⟩ := h9
          have hj : j = Trd T s := by omega
          subst hj
          have he : okTell T ss (nI s) b = an := by rw [he]; exact Bool.or_false _
          refine And.intro (fun _ => ?_) (fun q => absurd (Int32.le_refl _) q)
          cases an with
          | false =>
            refine And.intro (fun q => absurd rfl q) (fun _ => ⟨?_, hS⟩)
            unfold q_telling
            rw [if_neg (by rw [he]; decide)]
          | true =>
            refine And.intro (fun _ => ?_) (fun q => absurd q (by decide))
            exact key2 he (Trd T s) 0 none _ s3 (by omega) (fun _ => rfl) (fun x e => by cases e) hS hC rfl _
        | succ m ih =>
          intro j an τ hm he hS hC
          refine hP _ _ _ _ ?_
          refine mcall (c_roundOf G g l (d+4) τ T (h.2.2.1.keep hS rfl) _ s rfl hs1 hT) (fun r s3 h9 => ?_)
          obtain ⟨rfl, rfl⟩ := h9
          refine And.intro (fun q => absurd q (nI_ge (by omega) (by omega))) (fun _ => ?_)
          refine mcall (c_isShift G g l d s3 T (h.2.2.1.keep hS rfl) hT ss (hs.keep hS rfl rfl) _ _ s j rfl rfl hs1 (by omega)) (fun r s4 h9 => ?_)
          obtain ⟨rfl, hS2⟩ := h9
          have cj : (nI j).toNatClampNeg = j := clN (by omega)
          have hS3 := hS.tr (hS2.mono rfl rfl)
          refine And.intro (show vp_in (nI j) 48 from vinN (by omega) (by decide)) ?_
          have go : ∀ an' v, v = bI (fitF T ss s j) → okTell T ss (nI s) b = (an' || anyR (fitF T ss s) m (j+1)) → P 39 [some tM, some (iv (nI s)), some (iv b), some (iv (bI an)), some (iv (nI j)), none, none, none] [iv (bI an')] (sI s4 244 j v) := by
            intro an' v hv b1
            refine hP _ _ _ _ ?_
            show P 16 [some tM, some (iv (nI s)), some (iv b), some (iv (bI an')), some (iv (nI j + nI 1)), none, none, none] [] _
            rw [nI_add]
            refine ih (j+1) an' _ (by omega) b1 (hS3.a rfl) (fun i hi => ?_)
            rw [gI_sI]
            by_cases e : i = j
            · rw [if_pos ⟨rfl, e⟩, hv, e]
            · rw [if_neg (fun q => e q.2), hS2.ia 244 rfl rfl]
              exact hC i (by omega)
          have v9 : bI (fitF T ss s j) = bI (fitF T ss s j) := rfl
          have lg : ∀ an', okTell T ss (nI s) b = (an' || anyR (fitF T ss s) m (j+1)) → an' = true → ∀ v, v = bI (fitF T ss s j) → P 36 [some tM, some (iv (nI s)), some (iv b), some (iv (bI an)), some (iv (nI j)), none, none, none] [] (sI s4 244 j v) := by
            intro an' b1 b2 v hv
            refine hP _ _ _ _ ?_
            have := go an' v hv b1
            rw [b2] at this
            exact this
          have vn : ∀ b : Bool, vp_nar (tyOf 1) (bI b) = bI b := by intro b; cases b <;> rfl
          have st : sI s4 244 (nI j).toNatClampNeg (vp_nar (tyOf 1) (bI (fitF T ss s j))) = sI s4 244 j (bI (fitF T ss s j)) := by rw [cj, vn]
          have rd : gI (sI s4 244 (nI j).toNatClampNeg (vp_nar (tyOf 1) (bI (fitF T ss s j)))) 244 (nI j).toNatClampNeg = bI (fitF T ss s j) := by rw [st, cj, gI_sI, if_pos ⟨rfl, rfl⟩]
          refine And.intro (fun q => ?_) (fun q => And.intro (show vp_in (nI j) 48 from vinN (by omega) (by decide)) (And.intro (fun q1 => ?_) (fun q1 => ?_)))
          · have q : ¬ bI an = nI 0 := q
            cases an with
            | false => exact absurd rfl q
            | true =>
              show P 36 _ _ (sI s4 244 (nI j).toNatClampNeg (vp_nar (tyOf 1) (bI (fitF T ss s j))))
              rw [st]
              exact lg true (by rw [he]; rfl) rfl _ rfl
          · have q1 : gI (sI s4 244 (nI j).toNatClampNeg (vp_nar (tyOf 1) (bI (fitF T ss s j)))) 244 (nI j).toNatClampNeg = nI 0 := q1
            rw [rd] at q1
            have q : bI an = nI 0 := q
            cases an with
            | true => exact absurd q (by decide)
            | false =>
              have hf : fitF T ss s j = false := by
                cases hf : fitF T ss s j with
                | false => rfl
                | true => rw [hf] at q1; exact absurd q1 (by decide)
              show P 39 _ _ (sI s4 244 (nI j).toNatClampNeg (vp_nar (tyOf 1) (bI (fitF T ss s j))))
              rw [st]
              refine go false _ rfl ?_
              rw [he]
              show (false || (fitF T ss s j || _)) = _
              rw [hf]
              rfl
          · have q1 : ¬ gI (sI s4 244 (nI j).toNatClampNeg (vp_nar (tyOf 1) (bI (fitF T ss s j)))) 244 (nI j).toNatClampNeg = nI 0 := q1
            rw [rd] at q1
            have hf : fitF T ss s j = true := by
              cases hf : fitF T ss s j with
              | true => rfl
              | false => rw [hf] at q1; exact absurd rfl q1
            show P 36 _ _ (sI s4 244 (nI j).toNatClampNeg (vp_nar (tyOf 1) (bI (fitF T ss s j))))
            rw [st]
            refine lg true ?_ rfl _ rfl
            rw [he]
            show (an || (fitF T ss s j || _)) = _
            rw [hf]
            cases an <;> rfl
      exact key1 (Trd T s) 0 false s2 (by omega) (by rw [eo]; rfl) mS.rf (fun i hi => by omega)
end MU
