/-! what was seen (178, rows 179 ..), in the component -/
def XSi (ss : List Sig) (σ : AS) : Prop := ss.length ≤ 20 ∧ gI σ 0 31 = nI ss.length ∧ ∀ (k : Nat) (x : Sig), ss[k]? = some x → gI σ (179 + k) 0 = nI x.1 ∧ gI σ (179 + k) 1 = nI x.2.1 ∧ gI σ (179 + k) 2 = nI x.2.2 ∧ x.1 < 256 ∧ x.2.1 < 65536 ∧ x.2.2 < 256
theorem XSi.ks {ss : List Sig} {σ t : AS} {fs ids : List Nat} (h : XSi ss σ) (hS : kS fs ids σ t) (hz : 268 ≤ zn σ) (h1 : ids.all (fun a => Nat.blt 0 a && Nat.blt a 179 || Nat.blt 198 a) = true) (h2 : fs.contains 31 = false) : XSi ss t := by
  have hk : ∀ a, a = 0 ∨ (179 ≤ a ∧ a ≤ 198) → a ∉ ids := by
    intro a ha q
    have := List.all_eq_true.mp h1 a q
    simp only [Bool.or_eq_true, Bool.and_eq_true] at this
    rcases this with ⟨q1, q2⟩ | q1
    · have := Nat.le_of_ble_eq_true q1
      have := Nat.le_of_ble_eq_true q2
      omega
    · have := Nat.le_of_ble_eq_true q1
      omega
  refine ⟨h.1, ?_, fun k x e => ?_⟩
  · rw [(hS.1 0 31 (by omega) (hk 0 (Or.inl rfl)) (fun _ q => by simp at h2; exact h2 q)).1]; exact h.2.1
  · have hl : k < ss.length := (List.getElem?_eq_some_iff.mp e).1
    have h9 := h.1
    have e0 : ∀ j, gI t (179 + k) j = gI σ (179 + k) j := fun j => (hS.1 (179 + k) j (by omega) (hk _ (Or.inr (by omega))) (fun z => by omega)).1
    rw [e0, e0, e0]
    exact h.2.2 k x e
theorem kd_sig {σ : AS} {k : Nat} (h : k < 20) : kd true σ (179 + k) = (5, 3) := by
  have h1 : ∀ k : Fin 20, fixK (179 + k.val) = (5, 3) := by decide
  have h2 : Nat.ble NF (179 + k) = false := by
    cases hh : Nat.ble NF (179 + k) with
    | false => rfl
    | true => have h3 : 268 ≤ 179 + k := Nat.le_of_ble_eq_true hh; omega
  unfold kd
  rw [h2]
  exact h1 ⟨k, h⟩
/-- a new cell -/
theorem kS.nw {fs ids : List Nat} {σ : AS} {q : Nat × Nat} {n : Nat} (hz : 268 ≤ zn σ) : kS fs ids σ (nw σ q n) := by
  have hne : ∀ a, a < zn σ → a ≠ zn σ := fun a ha => by omega
  refine ⟨fun a k ha _ _ => ⟨?_, ?_, ?_⟩, fun a ha => ?_, ?_, ?_⟩
  · show (if a = zn σ then 0 else σ.1 a k) = σ.1 a k
    rw [if_neg (hne a ha)]
  · show (if a = zn σ then 0 else σ.2.1 a k) = σ.2.1 a k
    rw [if_neg (hne a ha)]
  · show rfx a k (if a = zn σ then none else σ.2.2.1 a k) = rfx a k (σ.2.2.1 a k)
    rw [if_neg (hne a ha)]
  · unfold kd
    cases hb : Nat.ble NF a with
    | false => rfl
    | true => show (if a = zn σ then q else σ.2.2.2.1 a) = σ.2.2.2.1 a; rw [if_neg (hne a ha)]
  · show zn σ ≤ zn σ + 1; omega
  · show zu σ ≤ zu σ + n; omega
theorem kd_nw {σ : AS} {q : Nat × Nat} {n : Nat} (hz : 268 ≤ zn σ) : kd true (nw σ q n) (zn σ) = q := by
  have h2 : Nat.ble NF (zn σ) = true := Nat.ble_eq_true_of_le hz
  unfold kd
  rw [h2]
  show (if zn σ = zn σ then q else _) = q
  rw [if_pos rfl]
theorem kS.seti {fs ids : List Nat} {σ s : AS} (h : kS fs ids σ s) {b k : Nat} {v : Int32} (hb : zn σ ≤ b) : kS fs ids σ (sI s b k v) := by
  refine ⟨fun a j h0 h3 h4 => ?_, h.2⟩
  have q := h.1 a j h0 h3 h4
  rw [gL_sI, gI_sI, if_neg (fun z => by omega), gR_sI]
  exact q
section SI_
variable (G : CX) (g : GX) (l : Launch) (d : Nat) (σ : AS)
set_option maxHeartbeats 1000000 in
theorem x_isShift (T : Twn) (h : XTn T σ) (hT : TOK T) (ss : List Sig) (hs : XSi ss σ) (hz : 268 ≤ zn σ) (x y : Int32) (s sh : Nat) (hx : x = nI s) (hy : y = nI sh) (hs1 : s < Tns T) (hsh : sh ≤ 1000) : MC G g l (d+51) mX0_isShift [tX, iv x, iv y] σ (fun r t => r = some (iv (bI (fitF T ss s sh))) ∧ xS [] [14] σ t) := by
  subst hx; subst hy
  have h12 := hT.1
  have hsl := hs.1
  refine MC1 tX0_isShift [2, 11, 22, 29, 33] rfl okX0_isShift rfl rfl rfl rfl (fun P hP => hP _ _ _ _ ?_)
  have key : ∀ (m k : Nat) (τ : AS), k + m = ss.length → xS [] [14] σ τ → fitF T ss s sh = (ss.drop k).all (fit1 T s sh) → P 2 [some tX, some (iv (nI s)), some (iv (nI sh)), some (iv (nI k))] [] τ := by
    intro m
    induction m with
    | zero =>
      intro k τ hm hS he
      have hs2 := hs.ks hS.k hz rfl rfl
      refine hP _ _ _ _ (And.intro (fun _ => ⟨nar1, ?_, hS⟩) (fun q => absurd (show gI τ 0 31 ≤ nI k from by rw [hs2.2.1, nI_leI (by omega) (by omega)]; omega) q))
      rw [he, List.drop_eq_nil_of_le (by omega)]
      rfl
    | succ m ih =>
      intro k τ hm hS he
      have hs2 := hs.ks hS.k hz rfl rfl
      obtain ⟨x, hx⟩ : ∃ x, ss[k]? = some x := ⟨_, List.getElem?_eq_getElem (by omega)⟩
      obtain ⟨r0, r1, r2, b0, b1, b2⟩ := hs2.2.2 k x hx
      have hdr : ss.drop k = x :: ss.drop (k+1) := by
        rw [List.drop_eq_getElem_cons (by omega : k < ss.length)]
        rw [(List.getElem?_eq_some_iff.mp hx).2]
      rw [hdr] at he
      have he : fitF T ss s sh = (fit1 T s sh x && (ss.drop (k+1)).all (fit1 T s sh)) := he
      have vk : vp_in (nI k) 20 := vinN (by omega) (by decide)
      have ck : (nI k).toNatClampNeg = k := clN (by omega)
      have next : ∀ u, xS [] [14] σ u → fit1 T s sh x = true → P 33 [some tX, some (iv (nI s)), some (iv (nI sh)), some (iv (nI k))] [] u := by
        intro u hu hf
        refine hP _ _ _ _ ?_
        show P 2 [some tX, some (iv (nI s)), some (iv (nI sh)), some (iv (nI k + nI 1))] [] u
        rw [nI_add]
        exact ih (k+1) u (by omega) hu (by rw [he, hf]; rfl)
      have kk : ∀ u, kd true u (179 + k) = (5, 3) := fun u => kd_sig (by omega)
      refine hP _ _ _ _ (And.intro (fun q => absurd (show gI τ 0 31 ≤ nI k from q) (by rw [hs2.2.1, nI_leI (by omega) (by omega)]; omega)) (fun _ => And.intro vk ?_))
      show P 11 [some tX, some (iv (nI s)), some (iv (nI sh)), some (iv (nI k))] [iv (nI 0), rf (179 + (nI k).toNatClampNeg)] τ
      rw [ck]
      refine hP _ _ _ _ ?_
      refine grd (b := Nat.beq (kd true τ (179 + k)).1 5) (by rw [kk]; rfl) ?_
      refine And.intro (show vp_in (nI 0) (kd true τ (179 + k)).2 from by rw [kk]; exact vin 0 3 rfl rfl) ?_
      refine And.intro (fun q => ?_) (fun q => ?_)
      · have q : ¬ gI τ (179 + k) 0 = nI s := q
        rw [r0, nI_eq (by omega) (by omega)] at q
        exact next τ hS (by unfold fit1; exact decide_eq_true (fun z => absurd z q))
      · have q : gI τ (179 + k) 0 = nI s := q
        rw [r0, nI_eq (by omega) (by omega)] at q
        refine And.intro vk ?_
        show P 22 [some tX, some (iv (nI s)), some (iv (nI sh)), some (iv (nI k))] [iv (nI 1), rf (179 + (nI k).toNatClampNeg), iv (nI sh), iv (nI s), tX] τ
        rw [ck]
        refine hP _ _ _ _ ?_
        refine grd (b := Nat.beq (kd true τ (179 + k)).1 5) (by rw [kk]; rfl) ?_
        refine And.intro (show vp_in (nI 1) (kd true τ (179 + k)).2 from by rw [kk]; exact vin 1 3 rfl rfl) ?_
        refine mcall (x_widthBy G g l d τ T (h.xs hS rfl) hT _ _ _ s x.2.1 sh rfl rfl r1 hs1 (by omega) hsh) (fun r u h9 => ?_)
        obtain ⟨rfl, e9⟩ := h9
        have hu := hS.tr e9
        have r2u : gI u (179 + k) 2 = nI x.2.2 := ((hs.ks hu.k hz rfl rfl).2.2 k x hx).2.2.1
        have hw := wid_le T s sh x.2.1
        refine And.intro vk ?_
        show P 29 [some tX, some (iv (nI s)), some (iv (nI sh)), some (iv (nI k))] [iv (nI 2), rf (179 + (nI k).toNatClampNeg), iv (nI (wid T s sh x.2.1))] u
        rw [ck]
        refine hP _ _ _ _ ?_
        refine grd (b := Nat.beq (kd true u (179 + k)).1 5) (by rw [kk]; rfl) ?_
        refine And.intro (show vp_in (nI 2) (kd true u (179 + k)).2 from by rw [kk]; exact vin 2 3 rfl rfl) ?_
        refine And.intro (fun q1 => ?_) (fun q1 => ⟨nar0, ?_, hu⟩)
        · have q1 : nI (wid T s sh x.2.1) = gI u (179 + k) 2 := q1
          rw [r2u, nI_eq (by omega) (by omega)] at q1
          exact next u hu (by unfold fit1; exact decide_eq_true (fun _ => q1))
        · have q1 : ¬ nI (wid T s sh x.2.1) = gI u (179 + k) 2 := q1
          rw [r2u, nI_eq (by omega) (by omega)] at q1
          rw [he]
          unfold fit1
          rw [decide_eq_false (fun e => q1 (e q))]
          rfl
  exact key ss.length 0 σ (by omega) xS.rf rfl
set_option maxHeartbeats 1000000 in
theorem x_shifts (T : Twn) (h : XTn T σ) (hT : TOK T) (ss : List Sig) (hs : XSi ss σ) (hz : 268 ≤ zn σ) (a k : Int32) : MC G g l (d+52) mX0_shifts [tX, iv a, iv k] σ (fun r t => r = some (iv (q_shifts T ss a k)) ∧ xS [] [14] σ t) := by
  have h12 := hT.1
  refine MC1 tX0_shifts [10, 14, 29] rfl okX0_shifts rfl rfl rfl rfl (fun P hP => hP _ _ _ _ ?_)
  refine mcall (x_isStreet G g l (d+48) σ T a h hT) (fun r s' h9 => ?_)
  obtain ⟨rfl, rfl⟩ := h9
  cases ha : inR a (Tns T) with
  | false => exact And.intro (fun q => absurd rfl q) (fun _ => ⟨by unfold q_shifts; rw [ha]; rfl, xS.rf⟩)
  | true =>
    refine And.intro (fun _ => ?_) (fun q => absurd q (by decide))
    obtain ⟨s, hs1, rfl⟩ := inR_of ha (by omega)
    have hrd := (hT.2.1 s hs1).2.2.2.2.1
    have e : q_shifts T ss (nI s) k = selF (fitF T ss s) k (Trd T s) 0 0 := by unfold q_shifts; rw [if_pos ha, clN (by omega)]
    have key : ∀ (m j c : Nat) (τ : AS), j + m = Trd T s → c ≤ j → xS [] [14] s' τ → q_shifts T ss (nI s) k = selF (fitF T ss s) k m j c → P 10 [some tX, some (iv (nI s)), some (iv k), some (iv (nI c)), some (iv (nI j))] [] τ := by
      intro m
      induction m with
      | zero =>
        intro j c τ hm hc hS he
        refine hP _ _ _ _ (hP _ _ _ _ (at_street T rfl (h.xs hS rfl) rfl rfl hs1 rfl (fun c2 hc2 => ?_)))
        refine grd (b := isOb (kd true τ c2) _) (by rw [hc2.1]; rfl) ?_
        have he : q_shifts T ss (nI s) k = if k = - nI 1 then nI c else - nI 1 := he
        refine And.intro (fun _ => And.intro (fun q => ⟨by rw [he, if_neg q], hS⟩) (fun q => ⟨by rw [he, if_pos q], hS⟩)) (fun q => absurd (show gI τ c2 4 ≤ nI j from by rw [hc2.2.2.2.2.1, nI_leI (by omega) (by omega)]; omega) q)
      | succ m ih =>
        intro j c τ hm hc hS he
        have he : q_shifts T ss (nI s) k = if fitF T ss s j = true then (if nI c = k then nI j else selF (fitF T ss s) k m (j+1) (c+1)) else selF (fitF T ss s) k m (j+1) c := he
        have next : ∀ (c' : Nat) (u : AS), c' ≤ j + 1 → xS [] [14] s' u → q_shifts T ss (nI s) k = selF (fitF T ss s) k m (j+1) c' → P 29 [some tX, some (iv (nI s)), some (iv k), some (iv (nI c')), some (iv (nI j))] [] u := by
          intro c' u a1 a2 a3
          refine hP _ _ _ _ ?_
          show P 10 [some tX, some (iv (nI s)), some (iv k), some (iv (nI c')), some (iv (nI j + nI 1))] [] u
          rw [nI_add]
          exact ih (j+1) c' u (by omega) a1 a2 a3
        refine hP _ _ _ _ (hP _ _ _ _ (at_street T rfl (h.xs hS rfl) rfl rfl hs1 rfl (fun c2 hc2 => ?_)))
        refine grd (b := isOb (kd true τ c2) _) (by rw [hc2.1]; rfl) ?_
        refine And.intro (fun q => absurd (show gI τ c2 4 ≤ nI j from q) (by rw [hc2.2.2.2.2.1, nI_leI (by omega) (by omega)]; omega)) (fun _ => ?_)
        refine mcall (x_isShift G g l d τ T (h.xs hS rfl) hT ss (hs.ks hS.k hz rfl rfl) (by rw [zn_of hS.2]; exact hz) _ _ s j rfl rfl hs1 (by omega)) (fun r u h9 => ?_)
        obtain ⟨rfl, e9⟩ := h9
        have hu := hS.tr e9
        cases hf : fitF T ss s j with
        | false =>
          refine And.intro (fun q => absurd rfl q) (fun _ => ?_)
          exact next c u (by omega) hu (by rw [he, if_neg (by rw [hf]; decide)])
        | true =>
          refine And.intro (fun _ => And.intro (fun q => ?_) (fun q => ?_)) (fun q => absurd q (by decide))
          · have q : ¬ nI c = k := q
            show P 29 [some tX, some (iv (nI s)), some (iv k), some (iv (nI c + nI 1)), some (iv (nI j))] [] u
            rw [nI_add]
            exact next (c+1) u (by omega) hu (by rw [he, if_pos hf, if_neg q])
          · have q : nI c = k := q
            exact ⟨by rw [he, if_pos hf, if_pos q], hu⟩
    exact key (Trd T s) 0 0 s' (by omega) (by omega) xS.rf e
set_option maxHeartbeats 1000000 in
theorem x_alike (T : Twn) (h : XTn T σ) (hT : TOK T) (ss : List Sig) (hs : XSi ss σ) (hz : 268 ≤ zn σ) (hr1 : zn σ + 1 ≤ CMAX) (hr2 : zu σ + 100 ≤ SMAX) (x y : Int32) (s hr : Nat) (hx : x = nI s) (hy : y = nI hr) (hs1 : s < Tns T) (hhr : hr ≤ 100000) : MC G g l (d+52) mX0_alike [tX, iv x, iv y] σ (fun r t => r = some (iv (nI (alike0 T ss s hr))) ∧ kS [] [14] σ t ∧ zn t = zn σ + 1 ∧ zu t = zu σ + 100) := by
  subst hx; subst hy
  have h12 := hT.1
  have hrd := (hT.2.1 s hs1).2.2.2.2.1
  refine MC1 tX0_alike [2, 7, 11, 25, 26, 33, 39] rfl okX0_alike rfl rfl rfl rfl (fun P hP => hP _ _ _ _ ?_)
  refine And.intro ⟨by decide, by decide⟩ (And.intro ⟨hr1, hr2⟩ ?_)
  have key : ∀ (m j mo : Nat) (f : Nat → Nat) (o6 : Option AV) (τ : AS), j + m = Trd T s → mo ≤ j → (∀ v, v < 100 → gI τ (zn σ) v = nI (f v) ∧ f v ≤ j) → kS [] [14] σ τ → kd true τ (zn σ) = (5, 100) → zn τ = zn σ + 1 → zu τ = zu σ + 100 → alike0 T ss s hr = alikeF (fitF T ss s) (fun sh => wid T s sh hr) m j f mo → P 7 [some tX, some (iv (nI s)), some (iv (nI hr)), some (rf (zn σ)), some (iv (nI mo)), some (iv (nI j)), o6] [] τ := by
    intro m
    induction m with
    | zero =>
      intro j mo f o6 τ hm hmo hf hS hk z1 z2 he
      refine hP _ _ _ _ (hP _ _ _ _ (at_street T rfl (h.ks hS rfl rfl (by omega)) rfl rfl hs1 rfl (fun c2 hc2 => ?_)))
      refine grd (b := isOb (kd true τ c2) _) (by rw [hc2.1]; rfl) ?_
      exact And.intro (fun _ => ⟨by rw [he]; rfl, hS, z1, z2⟩) (fun q => absurd (show gI τ c2 4 ≤ nI j from by rw [hc2.2.2.2.2.1, nI_leI (by omega) (by omega)]; omega) q)
    | succ m ih =>
      intro j mo f o6 τ hm hmo hf hS hk z1 z2 he
      have hXT := h.ks hS rfl rfl (by omega)
      have hsi := hs.ks hS hz rfl rfl
      have next : ∀ (mo' : Nat) (f' : Nat → Nat) (o6 : Option AV) (u : AS), mo' ≤ j + 1 → (∀ v, v < 100 → gI u (zn σ) v = nI (f' v) ∧ f' v ≤ j + 1) → kS [] [14] σ u → kd true u (zn σ) = (5, 100) → zn u = zn σ + 1 → zu u = zu σ + 100 → alike0 T ss s hr = alikeF (fitF T ss s) (fun sh => wid T s sh hr) m (j+1) f' mo' → P 39 [some tX, some (iv (nI s)), some (iv (nI hr)), some (rf (zn σ)), some (iv (nI mo')), some (iv (nI j)), o6] [] u := by
        intro mo' f' o6 u a1 a2 a3 a4 a5 a6 a7
        refine hP _ _ _ _ ?_
        show P 7 [some tX, some (iv (nI s)), some (iv (nI hr)), some (rf (zn σ)), some (iv (nI mo')), some (iv (nI j + nI 1)), o6] [] u
        rw [nI_add]
        exact ih (j+1) mo' f' o6 u (by omega) a1 a2 a3 a4 a5 a6 a7
      refine hP _ _ _ _ (hP _ _ _ _ (at_street T rfl hXT rfl rfl hs1 rfl (fun c2 hc2 => ?_)))
      refine grd (b := isOb (kd true τ c2) _) (by rw [hc2.1]; rfl) ?_
      refine And.intro (fun q => absurd (show gI τ c2 4 ≤ nI j from q) (by rw [hc2.2.2.2.2.1, nI_leI (by omega) (by omega)]; omega)) (fun _ => ?_)
      refine mcall (x_isShift G g l d τ T hXT hT ss hsi (by omega) _ _ s j rfl rfl hs1 (by omega)) (fun r u h9 => ?_)
      obtain ⟨rfl, e9⟩ := h9
      have hu : kS [] [14] σ u := hS.tr e9.k
      have ku : kd true u (zn σ) = (5, 100) := (kd_of e9.2 _).trans hk
      have zu1 : zn u = zn σ + 1 := (zn_of e9.2).trans z1
      have zu2 : zu u = zu σ + 100 := (zu_of e9.2).trans z2
      have fu : ∀ v, v < 100 → gI u (zn σ) v = nI (f v) ∧ f v ≤ j := fun v hv => ⟨by rw [(e9.1 (zn σ) v (by simp; omega) (fun z => by omega)).1]; exact (hf v hv).1, (hf v hv).2⟩
      cases hf1 : fitF T ss s j with
      | false =>
        refine And.intro (fun q => absurd rfl q) (fun _ => ?_)
        refine next mo f _ u (by omega) (fun v hv => ⟨(fu v hv).1, by have := (fu v hv).2; omega⟩) hu ku zu1 zu2 ?_
        rw [he]
        conv => lhs; unfold alikeF
        rw [if_neg (by rw [hf1]; decide)]
      | true =>
        refine And.intro (fun _ => ?_) (fun q => absurd q (by decide))
        refine mcall (x_widthBy G g l (d+1) u T (h.ks hu rfl rfl (by omega)) hT _ _ _ s hr j rfl rfl rfl hs1 (by omega) (by omega)) (fun r u2 h9 => ?_)
        obtain ⟨rfl, g9⟩ := h9
        have hu2 : kS [] [14] σ u2 := hu.tr g9.k
        have ku2 : kd true u2 (zn σ) = (5, 100) := (kd_of g9.2 _).trans ku
        have zv1 : zn u2 = zn σ + 1 := (zn_of g9.2).trans zu1
        have zv2 : zu u2 = zu σ + 100 := (zu_of g9.2).trans zu2
        have fu2 : ∀ v, v < 100 → gI u2 (zn σ) v = nI (f v) ∧ f v ≤ j := fun v hv => ⟨by rw [(g9.1 (zn σ) v (by simp; omega) (fun z => by omega)).1]; exact (fu v hv).1, (fu v hv).2⟩
        have hw := wid_le T s j hr
        have cw : (nI (wid T s j hr)).toNatClampNeg = wid T s j hr := clN (by omega)
        have vw : vp_in (nI (wid T s j hr)) 100 := vinN (by omega) (by decide)
        obtain ⟨f1, f2⟩ := fu2 (wid T s j hr) (by omega)
        show P 25 [some tX, some (iv (nI s)), some (iv (nI hr)), some (rf (zn σ)), some (iv (nI mo)), some (iv (nI j)), o6] [iv (nI (wid T s j hr))] u2
        refine hP _ _ _ _ ?_
        show P 26 [some tX, some (iv (nI s)), some (iv (nI hr)), some (rf (zn σ)), some (iv (nI mo)), some (iv (nI j)), some (iv (nI (wid T s j hr)))] [] u2
        refine hP _ _ _ _ ?_
        refine grd (b := Nat.beq (kd true u2 (zn σ)).1 5) (by rw [ku2]; rfl) ?_
        refine And.intro (show vp_in (nI (wid T s j hr)) (kd true u2 (zn σ)).2 by rw [ku2]; exact vw) ?_
        refine grd (b := Nat.beq (kd true u2 (zn σ)).1 5) (by rw [ku2]; rfl) ?_
        refine And.intro (show vp_in (nI (wid T s j hr)) (kd true u2 (zn σ)).2 by rw [ku2]; exact vw) ?_
        show P 33 [some tX, some (iv (nI s)), some (iv (nI hr)), some (rf (zn σ)), some (iv (nI mo)), some (iv (nI j)), some (iv (nI (wid T s j hr)))] [] (sI u2 (zn σ) (nI (wid T s j hr)).toNatClampNeg (gI u2 (zn σ) (nI (wid T s j hr)).toNatClampNeg + nI 1))
        rw [cw, f1, nI_add]
        have hu3 : kS [] [14] σ (sI u2 (zn σ) (wid T s j hr) (nI (f (wid T s j hr) + 1))) := hu2.seti (Nat.le_refl _)
        have ku3 : kd true (sI u2 (zn σ) (wid T s j hr) (nI (f (wid T s j hr) + 1))) (zn σ) = (5, 100) := ku2
        have g3 : gI (sI u2 (zn σ) (wid T s j hr) (nI (f (wid T s j hr) + 1))) (zn σ) (nI (wid T s j hr)).toNatClampNeg = nI (f (wid T s j hr) + 1) := by rw [cw, gI_sI, if_pos ⟨rfl, rfl⟩]
        have n9 : ∀ v, v < 100 → gI (sI u2 (zn σ) (wid T s j hr) (nI (f (wid T s j hr) + 1))) (zn σ) v = nI ((fun v => if v = wid T s j hr then f v + 1 else f v) v) ∧ (fun v => if v = wid T s j hr then f v + 1 else f v) v ≤ j + 1 := by
          intro v hv
          rw [gI_sI]
          show _ = nI (if v = wid T s j hr then f v + 1 else f v) ∧ (if v = wid T s j hr then f v + 1 else f v) ≤ j + 1
          by_cases e : v = wid T s j hr
          · rw [if_pos ⟨rfl, e⟩, if_pos e, e]
            exact ⟨rfl, by omega⟩
          · rw [if_neg (fun q => e q.2), if_neg e]
            exact ⟨(fu2 v hv).1, by have := (fu2 v hv).2; omega⟩
        have zw1 : zn (sI u2 (zn σ) (wid T s j hr) (nI (f (wid T s j hr) + 1))) = zn σ + 1 := zv1
        have zw2 : zu (sI u2 (zn σ) (wid T s j hr) (nI (f (wid T s j hr) + 1))) = zu σ + 100 := zv2
        generalize sI u2 (zn σ) (wid T s j hr) (nI (f (wid T s j hr) + 1)) = u3 at *
        refine hP _ _ _ _ ?_
        refine grd (b := Nat.beq (kd true u3 (zn σ)).1 5) (by rw [ku3]; rfl) ?_
        refine And.intro (show vp_in (nI (wid T s j hr)) (kd true u3 (zn σ)).2 by rw [ku3]; exact vw) ?_
        refine mcall (j_maxI G g l (d+50) u3 _ _ mo (f (wid T s j hr) + 1) rfl g3 (by omega) (by omega)) (fun r u4 h9 => ?_)
        obtain ⟨rfl, k9⟩ := h9
        subst k9
        refine next (max mo (f (wid T s j hr) + 1)) (fun v => if v = wid T s j hr then f v + 1 else f v) _ u4 (by omega) n9 hu3 ku3 zw1 zw2 ?_
        rw [he]
        conv => lhs; unfold alikeF
        rw [if_pos hf1]
        congr 1
        split <;> omega
  show P 2 [some tX, some (iv (nI s)), some (iv (nI hr)), none, none, none, none] [rf (zn σ)] (nw σ (5, (nI 100).toNatClampNeg) (nI 100).toNatClampNeg)
  refine hP _ _ _ _ ?_
  refine key (Trd T s) 0 0 (fun _ => 0) _ _ (by omega) (Nat.le_refl _) (fun v hv => ⟨?_, Nat.le_refl _⟩) (kS.nw hz) (kd_nw hz) rfl rfl rfl
  show (if zn σ = zn σ then 0 else _) = nI 0
  rw [if_pos rfl]
  rfl
end SI_
