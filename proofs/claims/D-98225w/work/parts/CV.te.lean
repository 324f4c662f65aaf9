theorem sel_any {p : Nat → Bool} : ∀ (m j : Nat), j + m < 1000000 → (selF p (nI 0) m j 0 = - nI 1 ↔ anyR p m j = false)
  | 0, j, _ => by
    unfold selF anyR
    rw [if_neg (by decide)]
    exact ⟨fun _ => rfl, fun _ => rfl⟩
  | m+1, j, h => by
    unfold selF anyR
    cases hp : p j with
    | true =>
      rw [if_pos rfl, if_pos rfl]
      exact ⟨fun e => absurd e (nI_neg1 (by omega)), fun e => by cases e⟩
    | false =>
      rw [if_neg (by decide)]
      exact sel_any m (j+1) (by omega)
theorem XNw.ks {fs ids : List Nat} {T : Twn} {n : Nws} {σ s : AS} (h : XNw T n σ) (hS : kS fs ids σ s) (hz : 268 ≤ zn σ) (h9 : ([16, 17, 18, 19, 20].all (fun a => !ids.contains a)) = true) : XNw T n s := by
  have hk : ∀ a, a ∈ [16, 17, 18, 19, 20] → a ∉ ids := fun a ha => by
    have := List.all_eq_true.mp h9 a ha
    simpa using this
  have e0 : ∀ k, gI s 16 k = gI σ 16 k := fun k => (hS.1 16 k (by omega) (hk _ (by simp)) (fun z => by omega)).1
  have e1 : ∀ k, gI s 17 k = gI σ 17 k := fun k => (hS.1 17 k (by omega) (hk _ (by simp)) (fun z => by omega)).1
  have e2 : ∀ k, gI s 18 k = gI σ 18 k := fun k => (hS.1 18 k (by omega) (hk _ (by simp)) (fun z => by omega)).1
  have e3 : ∀ k, gI s 19 k = gI σ 19 k := fun k => (hS.1 19 k (by omega) (hk _ (by simp)) (fun z => by omega)).1
  have e4 : ∀ k, gI s 20 k = gI σ 20 k := fun k => (hS.1 20 k (by omega) (hk _ (by simp)) (fun z => by omega)).1
  unfold XNw at h ⊢
  simp only [e0, e1, e2, e3, e4]
  exact h
section TE_
variable (G : CX) (g : GX) (l : Launch) (d : Nat) (σ : AS)
set_option maxHeartbeats 2000000 in
theorem x_telling (T : Twn) (n : Nws) (h : XN T n σ) (ss : List Sig) (hs : XSi ss σ) (hz : 268 ≤ zn σ) (hr1 : zn σ + 48 ≤ CMAX) (hr2 : zu σ + 4800 ≤ SMAX) (a b : Int32) : MC G g l (d+53) mX0_telling [tX, iv a, iv b] σ (fun r t => r = some (iv (q_telling T n ss a b)) ∧ kS [] [14] σ t ∧ zn t ≤ zn σ + 48 ∧ zu t ≤ zu σ + 4800) := by
  have hT := h.1
  have h12 := h.1.1
  have hh := h.2.1.1
  refine MC1 tX0_telling [15, 25, 32, 40, 48, 52] rfl okX0_telling rfl rfl rfl rfl (fun P hP => ?_)
  have no : ∀ τ, xS [] [14] σ τ → okTell T ss a b = false → P 15 [some tX, some (iv a), some (iv b), none, none, none, none] [] τ := by
    intro τ hS e
    refine hP _ _ _ _ ⟨?_, hS.k, by rw [zn_of hS.2]; omega, by rw [zu_of hS.2]; omega⟩
    unfold q_telling
    rw [if_neg (by rw [e]; decide)]
  refine hP _ _ _ _ ?_
  refine mcall (x_isStreet G g l (d+49) σ T a h.2.2.1 hT) (fun r s' h9 => ?_)
  obtain ⟨rfl, rfl⟩ := h9
  cases ha : inR a (Tns T) with
  | false => exact And.intro (fun _ => no _ xS.rf (by unfold okTell; rw [ha]; rfl)) (fun q => absurd rfl q)
  | true =>
    refine And.intro (fun q => absurd q (by decide)) (fun _ => ?_)
    refine mcall (x_btw G g l (d+51) s' b _ _ 0 1 rfl rfl (by decide) (by decide)) (fun r s2 h9 => ?_)
    obtain ⟨rfl, rfl⟩ := h9
    cases hb : btw b 0 1 with
    | false => exact And.intro (fun _ => no _ xS.rf (by unfold okTell; rw [ha, hb]; rfl)) (fun q => absurd rfl q)
    | true =>
      refine And.intro (fun q => absurd q (by decide)) (fun _ => ?_)
      refine mcall (x_shifts G g l d s2 T h.2.2.1 hT ss hs hz a (nI 0)) (fun r s3 h9 => ?_)
      obtain ⟨rfl, S3⟩ := h9
      obtain ⟨s, hs1, rfl⟩ := inR_of ha (by omega)
      have cs : (nI s).toNatClampNeg = s := clN (by omega)
      have hr := (hT.2.1 s hs1).2.2.2.2.1
      have eo : okTell T ss (nI s) b = anyR (fitF T ss s) (Trd T s) 0 := by unfold okTell; rw [ha, hb, cs]; rfl
      have eq : q_shifts T ss (nI s) (nI 0) = selF (fitF T ss s) (nI 0) (Trd T s) 0 0 := by unfold q_shifts; rw [if_pos ha, cs]
      have hsa := sel_any (p := fitF T ss s) (Trd T s) 0 (by omega)
      rw [← eq] at hsa
      refine And.intro (fun q => ?_) (fun q => ?_)
      · have q : ¬ q_shifts T ss (nI s) (nI 0) = - nI 1 := q
        have ok : okTell T ss (nI s) b = true := by
          rw [eo]
          cases hh : anyR (fitF T ss s) (Trd T s) 0 with
          | true => rfl
          | false => exact absurd (hsa.mpr hh) q
        have key : ∀ (m k : Nat) (bb : Option (Nat × Nat)) (x5 : Int32) (o6 : Option AV) (τ : AS), x5 = nI (Nhr n + k) → k + m = Trd T s → (bb = none → k = 0) → (∀ x, bb = some x → x.1 ≤ 20000 ∧ x.2 ≤ 1000) → kS [] [14] s2 τ → zn τ ≤ zn s2 + k → zu τ ≤ zu s2 + 100 * k → tellF (alike0 T ss s) (Trd T s) (Nhr n) none = tellF (alike0 T ss s) m (Nhr n + k) bb → P 25 [some tX, some (iv (nI s)), some (iv b), some (iv (bestI bb)), some (iv (leastI bb)), some (iv x5), o6] [] τ := by
          intro m
          induction m with
          | zero =>
            intro k bb x5 o6 τ hx5 hm hbn hbx hS z1 z2 he
            subst hx5
            have hN := h.2.2.2.ks hS hz rfl
            refine hP _ _ _ _ (hP _ _ _ _ (at_street T rfl (h.2.2.1.ks hS rfl rfl (by omega)) rfl rfl hs1 rfl (fun c2 hc2 => ?_)))
            refine grd (b := isOb (kd true τ c2) _) (by rw [hc2.1]; rfl) ?_
            have he2 : q_telling T n ss (nI s) b = tellI b bb := by
              unfold q_telling
              rw [if_pos ok, cs, he]
              rfl
            have hfin : kS [] [14] s2 τ ∧ zn τ ≤ zn s2 + 48 ∧ zu τ ≤ zu s2 + 4800 := ⟨hS, by omega, by omega⟩
            cases bb with
            | none => have := hbn rfl; omega
            | some x =>
              refine And.intro (fun _ => And.intro (fun q => ⟨?_, hfin⟩) (fun q => ⟨?_, hfin⟩)) (fun q => absurd (show gI τ 16 0 + gI τ c2 4 ≤ nI (Nhr n + k) from by rw [hN.1, hc2.2.2.2.2.1, nI_add, nI_leI (by omega) (by omega)]; omega) q)
              · have q : ¬ b = nI 0 := q
                rw [he2]
                show _ = some (iv (if b = nI 0 then nI x.1 else nI x.2))
                rw [if_neg q]
                rfl
              · have q : b = nI 0 := q
                rw [he2]
                show _ = some (iv (if b = nI 0 then nI x.1 else nI x.2))
                rw [if_pos q]
                rfl
          | succ m ih =>
            intro k bb x5 o6 τ hx5 hm hbn hbx hS z1 z2 he
            subst hx5
            have hN := h.2.2.2.ks hS hz rfl
            have hX := h.2.2.1.ks hS rfl rfl (by omega)
            have hzt : 268 ≤ zn τ := Nat.le_trans hz hS.2.2.1
            refine hP _ _ _ _ (hP _ _ _ _ (at_street T rfl hX rfl rfl hs1 rfl (fun c2 hc2 => ?_)))
            refine grd (b := isOb (kd true τ c2) _) (by rw [hc2.1]; rfl) ?_
            refine And.intro (fun q => absurd (show gI τ 16 0 + gI τ c2 4 ≤ nI (Nhr n + k) from q) (by rw [hN.1, hc2.2.2.2.2.1, nI_add, nI_leI (by omega) (by omega)]; omega)) (fun _ => ?_)
            refine mcall (x_alike G g l d τ T hX hT ss (hs.ks hS hz rfl rfl) hzt (by omega) (by omega) _ _ s (Nhr n + k) rfl rfl hs1 (by omega)) (fun r s4 h9 => ?_)
            obtain ⟨rfl, S4, w1, w2⟩ := h9
            have hS4 := hS.tr S4
            have hal : alike0 T ss s (Nhr n + k) ≤ 48 := by
              have := alikeF_le (fitF T ss s) (fun sh => wid T s sh (Nhr n + k)) (Trd T s) 0 (fun _ => 0) 0 (fun _ => Nat.le_refl _) (Nat.le_refl _)
              unfold alike0
              omega
            show P 40 [some tX, some (iv (nI s)), some (iv b), some (iv (bestI bb)), some (iv (leastI bb)), some (iv (nI (Nhr n + k))), o6] [iv (nI (alike0 T ss s (Nhr n + k)))] s4
            have go : ∀ bb', (∀ x, bb' = some x → x.1 ≤ 20000 ∧ x.2 ≤ 1000) → bb' ≠ none → tell1 (alike0 T ss s) (Nhr n + k) bb = bb' → P 52 [some tX, some (iv (nI s)), some (iv b), some (iv (bestI bb')), some (iv (leastI bb')), some (iv (nI (Nhr n + k))), some (iv (nI (alike0 T ss s (Nhr n + k))))] [] s4 := by
              intro bb' b2 b1 b3
              refine hP _ _ _ _ ?_
              refine ih (k+1) bb' _ _ s4 (nI_add (Nhr n + k) 1) (by omega) (fun z => absurd z b1) b2 hS4 (by omega) (by omega) ?_
              rw [he, ← b3]
              rfl
            have new : tell1 (alike0 T ss s) (Nhr n + k) bb = some (Nhr n + k, alike0 T ss s (Nhr n + k)) → P 48 [some tX, some (iv (nI s)), some (iv b), some (iv (bestI bb)), some (iv (leastI bb)), some (iv (nI (Nhr n + k))), some (iv (nI (alike0 T ss s (Nhr n + k))))] [] s4 := by
              intro b3
              refine hP _ _ _ _ ?_
              exact go (some (Nhr n + k, alike0 T ss s (Nhr n + k))) (fun x e => by cases e; exact ⟨by show Nhr n + k ≤ 20000; omega, by show alike0 T ss s (Nhr n + k) ≤ 1000; omega⟩) (fun z => by cases z) b3
            cases bb with
            | none =>
              refine hP _ _ _ _ ?_
              exact And.intro (fun _ => new rfl) (fun q => absurd rfl q)
            | some x =>
              obtain ⟨x1, x2⟩ := hbx x rfl
              refine hP _ _ _ _ ?_
              refine And.intro (fun q => absurd q (nI_neg1 (by omega))) (fun _ => And.intro (fun q => ?_) (fun q => ?_))
              · have q : nI (alike0 T ss s (Nhr n + k)) < nI x.2 := q
                rw [nI_ltI (by omega) (by omega)] at q
                exact new (by show (if _ then _ else _) = _; rw [if_pos q])
              · have q : ¬ nI (alike0 T ss s (Nhr n + k)) < nI x.2 := q
                rw [nI_ltI (by omega) (by omega)] at q
                exact go (some x) hbx (fun z => by cases z) (by show (if _ then _ else _) = _; rw [if_neg q])
        have hN3 := h.2.2.2.xs S3 rfl
        exact key (Trd T s) 0 none _ _ s3 hN3.1 (by omega) (fun _ => rfl) (fun x e => by cases e) S3.k (by rw [zn_of S3.2]; omega) (by rw [zu_of S3.2]; omega) rfl
      · have q : q_shifts T ss (nI s) (nI 0) = - nI 1 := q
        exact no _ S3 (by rw [eo]; exact hsa.mp q)
set_option maxHeartbeats 2000000 in
theorem x_see (T : Twn) (h : XTn T σ) (hT : TOK T) (tp : List Nat) (hp : XTp tp σ) : MC G g l (d+4) mX0_see [tX] σ (fun r t => XTp [] t ∧ if okSee T tp = true then (r = some (iv (nI (tp.length / 4))) ∧ xS [2, 31] (List.map (fun i => i + 179) (List.range 20)) σ t ∧ XSi (sightsOf tp) t) else (r = some (iv (- nI 1)) ∧ xS [2] [15] σ t ∧ XInc 1 σ t)) := by
  have hl := hp.1.1
  have h12 := hT.1
  refine MC1 tX0_see [14, 15, 18, 38, 39, 42, 55, 69, 70, 92, 93, 105, 106] rfl okX0_see rfl rfl rfl rfl (fun P hP => hP _ _ _ _ ?_)
  refine mcall (x_taken0 G g l (d+2) σ tp hp) (fun r s1 h9 => ?_)
  obtain ⟨rfl, S1, E1, B1⟩ := h9
  have hX1 := h.xs S1 rfl
  have i15 : ∀ j, gI s1 15 j = gI σ 15 j := fun j => S1.ia 15 rfl rfl j
  have noP : okSee T tp = false → ∀ x3 : Option AV, P 42 [some tX, some (iv (nI tp.length)), some (iv (nI 0)), x3] [] s1 := by
    intro e x3
    refine hP _ _ _ _ (And.intro (fun q => absurd rfl q) (fun _ => ?_))
    refine mcall (x_refuses G g l (d+2) s1 _ 1 rfl (by omega)) (fun r s2 h9 => ?_)
    obtain ⟨rfl, e9⟩ := h9
    subst e9
    refine ⟨⟨⟨by simp, fun k x e => by simp at e⟩, E1.2⟩, ?_⟩
    show if okSee T tp = true then _ else _
    rw [if_neg (by rw [e]; decide)]
    exact ⟨rfl, (S1.mono rfl rfl).a rfl, (XInc.mk 1 s1).pre i15⟩
  have yesP : okSee T tp = true → ∀ x3 : Option AV, P 42 [some tX, some (iv (nI tp.length)), some (iv (nI 1)), x3] [] s1 := by
    intro ok x3
    have ok2 := ok
    unfold okSee at ok2
    rw [Bool.and_eq_true, decide_eq_true_eq] at ok2
    obtain ⟨⟨a1, a2, a3⟩, a4⟩ := ok2
    have fill : ∀ (m k : Nat) (τ : AS), k + m = tp.length / 4 → xS [2, 31] (List.map (fun i => i + 179) (List.range 20)) σ τ → gI τ 0 2 = nI 0 → gI τ 0 31 = nI (tp.length / 4) → XTb tp τ → (∀ j, j < k → gI τ (179 + j) 0 = nI (sigAt tp j).1 ∧ gI τ (179 + j) 1 = nI (sigAt tp j).2.1 ∧ gI τ (179 + j) 2 = nI (sigAt tp j).2.2) → P 55 [some tX, some (iv (nI tp.length)), some (iv (nI 1)), some (iv (nI k))] [] τ := by
      intro m
      induction m with
      | zero =>
        intro k τ hm hS h2 h31 hB hR
        refine hP _ _ _ _ (And.intro (fun _ => ?_) (fun q => absurd (show gI τ 0 31 ≤ nI k from by rw [h31, nI_leI (by omega) (by omega)]; omega) q))
        refine ⟨⟨⟨by simp, fun k x e => by simp at e⟩, h2⟩, ?_⟩
        show if okSee T tp = true then _ else _
        rw [if_pos ok]
        refine ⟨congrArg (fun z => some (iv z)) h31, hS, ?_, ?_, fun j x hx => ?_⟩
        · unfold sightsOf; rw [List.length_map, List.length_range]; exact a3
        · unfold sightsOf; rw [List.length_map, List.length_range]; exact h31
        · unfold sightsOf at hx
          rw [List.getElem?_map] at hx
          have hj : j < tp.length / 4 := by
            rcases Nat.lt_or_ge j (tp.length / 4) with z | z
            · exact z
            · rw [List.getElem?_eq_none (by rw [List.length_range]; exact z)] at hx; cases hx
          rw [List.getElem?_range hj] at hx
          have hx : some (sigAt tp j) = some x := hx
          cases hx
          obtain ⟨r0, r1, r2⟩ := hR j (by omega)
          have q0 := (hB.at (k := 4 * j) (by omega)).2
          have q1 := (hB.at (k := 4 * j + 1) (by omega)).2
          have q2 := (hB.at (k := 4 * j + 2) (by omega)).2
          have q3 := (hB.at (k := 4 * j + 3) (by omega)).2
          exact ⟨r0, r1, r2, q0, by show 256 * tp[4 * j + 1]! + tp[4 * j + 2]! < 65536; omega, q3⟩
      | succ m ih =>
        intro k τ hm hS h2 h31 hB hR
        have hk20 : k < 20 := by omega
        have vk : vp_in (nI k) 20 := vinN hk20 (by decide)
        have ck : (nI k).toNatClampNeg = k := clN (by omega)
        have kk : ∀ u, kd true u (179 + k) = (5, 3) := fun u => kd_sig hk20
        have hmem : (List.map (fun i => i + 179) (List.range 20)).contains (179 + k) = true := by
          rw [List.contains_iff_mem]
          exact List.mem_map.mpr ⟨k, List.mem_range.mpr hk20, by omega⟩
        have q1 := (hB.at (k := 4 * k + 1) (by omega)).2
        have q2 := (hB.at (k := 4 * k + 2) (by omega)).2
        refine hP _ _ _ _ (And.intro (fun q => absurd (show gI τ 0 31 ≤ nI k from q) (by rw [h31, nI_leI (by omega) (by omega)]; omega)) (fun _ => And.intro vk ?_))
        refine mcall (x_byteAt0 G g l (d+2) τ tp hB _ (4 * k) (pk_mul 4 k) (by omega)) (fun r τ' h9 => ?_)
        obtain ⟨rfl, e9⟩ := h9
        subst e9
        show P 69 [some tX, some (iv (nI tp.length)), some (iv (nI 1)), some (iv (nI k))] [iv (nI tp[4 * k]!), iv (nI 0), rf (179 + (nI k).toNatClampNeg)] τ'
        rw [ck]
        refine hP _ _ _ _ ?_
        refine grd (b := Nat.beq (kd true τ' (179 + k)).1 5) (by rw [kk]; rfl) ?_
        refine And.intro (show vp_in (nI 0) (kd true τ' (179 + k)).2 from by rw [kk]; exact vin 0 3 rfl rfl) ?_
        show P 70 [some tX, some (iv (nI tp.length)), some (iv (nI 1)), some (iv (nI k))] [] (sI τ' (179 + k) 0 (nI tp[4 * k]!))
        have B1 : XTb tp (sI τ' (179 + k) 0 (nI tp[4 * k]!)) := ⟨hB.1, fun j x e => by rw [gI_sI, if_neg (by omega)]; exact hB.2 j x e⟩
        refine hP _ _ _ _ (And.intro vk ?_)
        refine mcall (x_byteAt0 G g l (d+2) _ tp B1 _ (4 * k + 1) (by rw [pk_mul, nI_add]) (by omega)) (fun r τ1 h9 => ?_)
        obtain ⟨rfl, e9⟩ := h9
        subst e9
        refine mcall (x_byteAt0 G g l (d+2) _ tp B1 _ (4 * k + 2) (by rw [pk_mul, nI_add]) (by omega)) (fun r τ1 h9 => ?_)
        obtain ⟨rfl, e9⟩ := h9
        subst e9
        show P 92 [some tX, some (iv (nI tp.length)), some (iv (nI 1)), some (iv (nI k))] [iv (nI tp[4 * k + 1]! <<< (nI 8 &&& 31) ||| nI tp[4 * k + 2]!), iv (nI 1), rf (179 + (nI k).toNatClampNeg)] _
        rw [ck, or8 q1 q2]
        refine hP _ _ _ _ ?_
        refine grd (b := Nat.beq (kd true (sI τ' (179 + k) 0 (nI tp[4 * k]!)) (179 + k)).1 5) (by rw [kk]; rfl) ?_
        refine And.intro (show vp_in (nI 1) (kd true (sI τ' (179 + k) 0 (nI tp[4 * k]!)) (179 + k)).2 from by rw [kk]; exact vin 1 3 rfl rfl) ?_
        show P 93 [some tX, some (iv (nI tp.length)), some (iv (nI 1)), some (iv (nI k))] [] (sI (sI τ' (179 + k) 0 (nI tp[4 * k]!)) (179 + k) 1 (nI (256 * tp[4 * k + 1]! + tp[4 * k + 2]!)))
        have B2 : XTb tp (sI (sI τ' (179 + k) 0 (nI tp[4 * k]!)) (179 + k) 1 (nI (256 * tp[4 * k + 1]! + tp[4 * k + 2]!))) := ⟨hB.1, fun j x e => by rw [gI_sI, if_neg (by omega)]; exact B1.2 j x e⟩
        refine hP _ _ _ _ (And.intro vk ?_)
        refine mcall (x_byteAt0 G g l (d+2) _ tp B2 _ (4 * k + 3) (by rw [pk_mul, nI_add]) (by omega)) (fun r τ1 h9 => ?_)
        obtain ⟨rfl, e9⟩ := h9
        subst e9
        show P 105 [some tX, some (iv (nI tp.length)), some (iv (nI 1)), some (iv (nI k))] [iv (nI tp[4 * k + 3]!), iv (nI 2), rf (179 + (nI k).toNatClampNeg)] _
        rw [ck]
        refine hP _ _ _ _ ?_
        refine grd (b := Nat.beq (kd true (sI (sI τ' (179 + k) 0 (nI tp[4 * k]!)) (179 + k) 1 (nI (256 * tp[4 * k + 1]! + tp[4 * k + 2]!))) (179 + k)).1 5) (by rw [kk]; rfl) ?_
        refine And.intro (show vp_in (nI 2) (kd true (sI (sI τ' (179 + k) 0 (nI tp[4 * k]!)) (179 + k) 1 (nI (256 * tp[4 * k + 1]! + tp[4 * k + 2]!))) (179 + k)).2 from by rw [kk]; exact vin 2 3 rfl rfl) ?_
        show P 106 [some tX, some (iv (nI tp.length)), some (iv (nI 1)), some (iv (nI k))] [] (sI (sI (sI τ' (179 + k) 0 (nI tp[4 * k]!)) (179 + k) 1 (nI (256 * tp[4 * k + 1]! + tp[4 * k + 2]!))) (179 + k) 2 (nI tp[4 * k + 3]!))
        refine hP _ _ _ _ ?_
        show P 55 [some tX, some (iv (nI tp.length)), some (iv (nI 1)), some (iv (nI k + nI 1))] [] (sI (sI (sI τ' (179 + k) 0 (nI tp[4 * k]!)) (179 + k) 1 (nI (256 * tp[4 * k + 1]! + tp[4 * k + 2]!))) (179 + k) 2 (nI tp[4 * k + 3]!))
        rw [nI_add]
        refine ih (k+1) _ (by omega) (((hS.a hmem).a hmem).a hmem) ?_ ?_ ⟨hB.1, fun j x e => by rw [gI_sI, if_neg (by omega)]; exact B2.2 j x e⟩ (fun j hj => ?_)
        · rw [gI_sI, if_neg (by omega), gI_sI, if_neg (by omega), gI_sI, if_neg (by omega)]; exact h2
        · rw [gI_sI, if_neg (by omega), gI_sI, if_neg (by omega), gI_sI, if_neg (by omega)]; exact h31
        · by_cases e : j = k
          · subst e
            refine ⟨?_, ?_, ?_⟩
            · rw [gI_sI, if_neg (by omega), gI_sI, if_neg (by omega), gI_sI, if_pos ⟨rfl, rfl⟩]; rfl
            · rw [gI_sI, if_neg (by omega), gI_sI, if_pos ⟨rfl, rfl⟩]; rfl
            · rw [gI_sI, if_pos ⟨rfl, rfl⟩]; rfl
          · simp only [gI_sI]
            rw [if_neg (by omega), if_neg (by omega), if_neg (by omega), if_neg (by omega), if_neg (by omega), if_neg (by omega), if_neg (by omega), if_neg (by omega), if_neg (by omega)]
            exact hR j (by omega)
    refine hP _ _ _ _ (And.intro (fun _ => And.intro (by decide) ?_) (fun q => absurd q (by decide)))
    have e31 : nI tp.length / nI 4 = nI (tp.length / 4) := pk_div (by omega) (by omega) (by omega)
    refine fill (tp.length / 4) 0 (sI s1 0 31 (nI tp.length / nI 4)) (by omega) ((S1.mono rfl rfl).f rfl) ?_ ?_ ⟨B1.1, fun j x e => by rw [gI_sI, if_neg (by omega)]; exact B1.2 j x e⟩ (fun j hj => by omega)
    · rw [gI_sI, if_neg (by omega)]; exact E1.2
    · rw [gI_sI, if_pos ⟨rfl, rfl⟩, e31]
  have loop : ∀ (m k : Nat), k + m = tp.length / 4 → tp.length % 4 = 0 → okSee T tp = allR (rowOK T tp) m k → P 18 [some tX, some (iv (nI tp.length)), some (iv (nI 1)), some (iv (nI (4 * k)))] [] s1 := by
    intro m
    induction m with
    | zero =>
      intro k hm h4 he
      refine hP _ _ _ _ (And.intro (fun _ => ?_) (fun q => absurd (show nI tp.length ≤ nI (4 * k) from by rw [nI_leI (by omega) (by omega)]; omega) q))
      exact yesP he _
    | succ m ih =>
      intro k hm h4 he
      have he : okSee T tp = (rowOK T tp k && allR (rowOK T tp) m (k+1)) := he
      have b0 := (B1.at (k := 4 * k) (by omega)).2
      have b3 := (B1.at (k := 4 * k + 3) (by omega)).2
      have bad : rowOK T tp k = false → P 38 [some tX, some (iv (nI tp.length)), some (iv (nI 1)), some (iv (nI (4 * k)))] [] s1 := by
        intro hr
        refine hP _ _ _ _ ?_
        show P 39 [some tX, some (iv (nI tp.length)), some (iv (nI 1)), some (iv (nI (4 * k)))] [iv (nI 0)] s1
        refine hP _ _ _ _ ?_
        show P 18 [some tX, some (iv (nI tp.length)), some (iv (nI 0)), some (iv (nI (4 * k) + nI 4))] [] s1
        refine hP _ _ _ _ (And.intro (fun _ => noP (by rw [he, hr]; rfl) _) (fun _ => And.intro (fun _ => noP (by rw [he, hr]; rfl) _) (fun q => absurd rfl q)))
      refine hP _ _ _ _ (And.intro (fun q => absurd (show nI tp.length ≤ nI (4 * k) from q) (by rw [nI_leI (by omega) (by omega)]; omega)) (fun _ => And.intro (fun q => absurd q (by decide)) (fun _ => ?_)))
      refine mcall (x_byteAt0 G g l (d+2) s1 tp B1 _ (4 * k) rfl (by omega)) (fun r s2 h9 => ?_)
      obtain ⟨rfl, e9⟩ := h9
      subst e9
      refine mcall (x_isStreet G g l d s2 T _ hX1 hT) (fun r s3 h9 => ?_)
      obtain ⟨rfl, e9⟩ := h9
      subst e9
      rw [inR_nI (by omega)]
      cases hd1 : decide (tp[4 * k]! < Tns T) with
      | false => exact And.intro (fun _ => bad (by unfold rowOK; rw [hd1]; rfl)) (fun q => absurd rfl q)
      | true =>
        refine And.intro (fun q => absurd q (by decide)) (fun _ => ?_)
        refine mcall (x_byteAt0 G g l (d+2) s3 tp B1 _ (4 * k + 3) (nI_add (4 * k) 3) (by omega)) (fun r s4 h9 => ?_)
        obtain ⟨rfl, e9⟩ := h9
        subst e9
        refine And.intro (fun q => ?_) (fun q => ?_)
        · have q : nI 99 < nI tp[4 * k + 3]! := q
          rw [nI_ltI (by omega) (by omega)] at q
          exact bad (by unfold rowOK; rw [hd1, decide_eq_false (by omega)]; rfl)
        · have q : ¬ nI 99 < nI tp[4 * k + 3]! := q
          rw [nI_ltI (by omega) (by omega)] at q
          show P 39 [some tX, some (iv (nI tp.length)), some (iv (nI 1)), some (iv (nI (4 * k)))] [iv (nI 1)] s4
          refine hP _ _ _ _ ?_
          show P 18 [some tX, some (iv (nI tp.length)), some (iv (nI 1)), some (iv (nI (4 * k) + nI 4))] [] s4
          rw [nI_add, show 4 * k + 4 = 4 * (k + 1) by omega]
          exact ih (k+1) (by omega) h4 (by rw [he, show rowOK T tp k = true from by unfold rowOK; rw [hd1, decide_eq_true (by omega)]; rfl]; rfl)
  have no1 : okSee T tp = false → P 14 [some tX, some (iv (nI tp.length)), none, none] [] s1 := by
    intro e
    refine hP _ _ _ _ ?_
    show P 15 [some tX, some (iv (nI tp.length)), none, none] [iv (nI 0)] s1
    refine hP _ _ _ _ ?_
    show P 18 [some tX, some (iv (nI tp.length)), some (iv (nI 0)), some (iv (nI 0))] [] s1
    refine hP _ _ _ _ (And.intro (fun _ => noP e _) (fun _ => And.intro (fun _ => noP e _) (fun q => absurd rfl q)))
  refine And.intro (fun q => no1 ?_) (fun q => ?_)
  · have q : nI tp.length ≤ nI 0 := q
    rw [nI_leI (by omega) (by omega)] at q
    unfold okSee
    rw [decide_eq_false (fun z => by omega)]
    rfl
  · have q : ¬ nI tp.length ≤ nI 0 := q
    rw [nI_leI (by omega) (by omega)] at q
    have e4 : nI tp.length - nI tp.length / nI 4 * nI 4 = nI (tp.length % 4) := pk_rem (by omega) (by omega) (by omega)
    refine And.intro (by decide) (And.intro (fun q2 => no1 ?_) (fun q2 => And.intro (fun q3 => no1 ?_) (fun q3 => ?_)))
    · have q2 : ¬ nI tp.length - nI tp.length / nI 4 * nI 4 = nI 0 := q2
      rw [e4, nI_eq (by omega) (by omega)] at q2
      unfold okSee
      rw [decide_eq_false (fun z => by omega)]
      rfl
    · have q3 : nI 80 < nI tp.length := q3
      rw [nI_ltI (by omega) (by omega)] at q3
      unfold okSee
      rw [decide_eq_false (fun z => by omega)]
      rfl
    · have q2 : nI tp.length - nI tp.length / nI 4 * nI 4 = nI 0 := q2
      rw [e4, nI_eq (by omega) (by omega)] at q2
      have q3 : ¬ nI 80 < nI tp.length := q3
      rw [nI_ltI (by omega) (by omega)] at q3
      show P 15 [some tX, some (iv (nI tp.length)), none, none] [iv (nI 1)] s1
      refine hP _ _ _ _ ?_
      exact loop (tp.length / 4) 0 (by omega) q2 (by unfold okSee; rw [decide_eq_true ⟨by omega, by omega, by omega⟩]; rfl)
end TE_
