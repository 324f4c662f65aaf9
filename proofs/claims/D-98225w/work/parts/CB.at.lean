/-! WHAT A VALUE IS AT A MOMENT: for sums of a town (q false: moment 13, nothing changes), for sums of a question (q true: moment 11) -/
def atT : List (Nat × Nat) := [(9, 278), (10, 281), (11, 283), (12, 285), (13, 287)]
theorem chain_ev {f : Nat → List Int → List Int} (fO : ∀ (c : Nat) (a b : Int) (st : List Int), 1 ≤ c → c ≤ 6 → f c (b :: a :: st) = opZ c a b :: st) (vs : Nat → Int) : ∀ (r : List Itm) (k : Nat) (v : Int) (st : List Int), mid v → (∀ (i : Nat) (x : Itm), r[i]? = some x → mid (vs (k + i)) ∧ sgOK x.2.2 ∧ ∀ st, evS f x.2.1 st = vs (k + i) :: st) → ∃ w, mid w ∧ evS f (itC r) (v :: st) = w :: st
  | [], _, v, st, hv, _ => ⟨v, hv, rfl⟩
  | x :: r, k, v, st, hv, h => by
    obtain ⟨h1, h2, h3⟩ := h 0 x rfl
    have h4 := opC_le h2
    have e : evS f (itC (x :: r)) (v :: st) = evS f (itC r) (opZ (opC x.2.2) v (vs k) :: st) := by
      show evS f ((x.2.1 ++ [opC x.2.2]) ++ itC r) (v :: st) = _
      rw [evS_app, evS_app, h3, evS_one, fO _ _ _ _ h4.1 (by omega)]
      rfl
    rw [e]
    exact chain_ev fO vs r (k+1) _ st (opZ_mid hv h1) (fun i y hy => by
      have := h (i+1) y hy
      rw [show k + 1 + i = k + (i + 1) by omega]
      exact this)
section AT_
variable (G : CX) (g : GX) (l : Launch) (D : Nat)
def ATR (m : Nat) (f : Nat → List Int → List Int) (FR : AS → AS → Prop) (d : Nat) (σ : AS) (a : Nat) (cs : List Nat) : Prop := ∃ c mi v, kd true σ a = (0, c) ∧ lkp atT c = some mi ∧ mid v ∧ (∀ st, evS f cs st = v :: st) ∧ MC G g l (D+d+8) mi [rf a, rf m] σ (fun r t => r = some (jv (zL v)) ∧ FR σ t)
theorem at_fix (m : Nat) (f : Nat → List Int → List Int) (FR : AS → AS → Prop) (hrf : ∀ s, FR s s) (f1 : ∀ n st, n ≤ 9999 → f (1000 + n) st = (n : Int) :: st) (d : Nat) (σ : AS) (a n : Nat) (cs : List Nat) (k1 : kd true σ a = (0, 11)) (h1 : n ≤ 9999) (h2 : cs = [1000 + n]) (h3 : gL σ a 0 = lN n) : ATR G g l D m f FR (d+1) σ a cs := by
  refine ⟨11, 283, (n : Int), k1, rfl, ⟨by omega, by omega⟩, fun st => by rw [h2, evS_one, f1 n st h1], ?_⟩
  refine MC0 tX12_at rfl okX12_at rfl rfl rfl rfl (fun P => ?_)
  refine grd (b := isOb (kd true σ a) _) (by rw [k1]; rfl) ?_
  exact ⟨congrArg (fun z => some (jv z)) h3, hrf σ⟩
theorem at_ask (q : Bool) (m : Nat) (f : Nat → List Int → List Int) (A : Nat → Int) (FR : AS → AS → Prop) (EN : AS → Prop) (hm : m = 11 ∨ m = 13) (hrf : ∀ s, FR s s) (has : ∀ s k, EN s → askOK q k → gL s (m+1) k = zL (A k) ∧ inZ (A k)) (fA : ∀ k st, askOK q k → f (askC q k) st = clipZ (A k) :: st) (d : Nat) (σ : AS) (a k : Nat) (cs : List Nat) (hE : EN σ) (k1 : kd true σ a = (0, 12)) (h1 : askOK q k) (h2 : cs = [askC q k]) (h3 : gI σ a 0 = nI k) : ATR G g l D m f FR (d+1) σ a cs := by
  obtain ⟨g1, g2⟩ := has σ k hE h1
  have hk5 : k < 5 := by unfold askOK at h1; split at h1 <;> omega
  refine ⟨12, 285, clipZ (A k), k1, rfl, clipZ_in _, fun st => by rw [h2, evS_one, fA k st h1], ?_⟩
  rcases hm with rfl | rfl
  · refine MC1 tX13_at [3] rfl okX13_at rfl rfl rfl rfl (fun P hP => ?_)
    refine hP _ _ _ _ ?_
    show P 3 [some (rf a), some (rf 11)] [rf a, rf 12] σ
    refine hP _ _ _ _ ?_
    refine grd (b := isOb (kd true σ a) _) (by rw [k1]; rfl) ?_
    refine And.intro (show vp_in (gI σ a 0) 5 from by rw [h3]; exact vinN hk5 (by decide)) ?_
    refine mcall (x_held G g l (D+d+6) σ _ (A k) (show gL σ 12 (gI σ a 0).toNatClampNeg = zL (A k) from by rw [h3, clN (by omega)]; exact g1) g2) (fun r s1 h9 => ?_)
    obtain ⟨rfl, e9⟩ := h9
    subst e9
    exact ⟨rfl, hrf _⟩
  · refine MC1 tX13_at [3] rfl okX13_at rfl rfl rfl rfl (fun P hP => ?_)
    refine hP _ _ _ _ ?_
    show P 3 [some (rf a), some (rf 13)] [rf a, rf 14] σ
    refine hP _ _ _ _ ?_
    refine grd (b := isOb (kd true σ a) _) (by rw [k1]; rfl) ?_
    refine And.intro (show vp_in (gI σ a 0) 5 from by rw [h3]; exact vinN hk5 (by decide)) ?_
    refine mcall (x_held G g l (D+d+6) σ _ (A k) (show gL σ 14 (gI σ a 0).toNatClampNeg = zL (A k) from by rw [h3, clN (by omega)]; exact g1) g2) (fun r s1 h9 => ?_)
    obtain ⟨rfl, e9⟩ := h9
    subst e9
    exact ⟨rfl, hrf _⟩
set_option maxHeartbeats 1000000 in
theorem at_pair (q : Bool) (m z : Nat) (f : Nat → List Int → List Int) (FR : AS → AS → Prop) (EN : AS → Prop) (hrf : ∀ s, FR s s) (htr : ∀ s t u, FR s t → FR t u → FR s u) (hag : ∀ s t, FR s t → agr (Qz z) s t) (hen : ∀ s t, FR s t → EN s → EN t) (fO : ∀ (c : Nat) (a b : Int) (st : List Int), 1 ≤ c → c ≤ 6 → f c (b :: a :: st) = opZ c a b :: st) (d : Nat) (IH : ∀ (σ : AS) (a : Nat) (cs : List Nat), VAL (Qz z) q σ d a cs → EN σ → ATR G g l D m f FR d σ a cs) (σ : AS) (a : Nat) (cs : List Nat) (pa : Qz z a) (hE : EN σ) (k1 : kd true σ a = (0, 10)) (mm : Bool) (v1 v2 : Nat) (c1 c2 : List Nat) (h1 : gI σ a 0 = bI mm) (h2 : gR true σ a 1 = some (.inl v1)) (h3 : gR true σ a 2 = some (.inl v2)) (h4 : VAL (Qz z) q σ d v1 c1) (h5 : VAL (Qz z) q σ d v2 c2) (h6 : cs = c1 ++ c2 ++ [if mm = true then 6 else 5]) : ATR G g l D m f FR (d+1) σ a cs := by
  obtain ⟨b1, m1, w1, kk1, l1, mw1, ev1, C1⟩ := IH σ v1 c1 h4 hE
  have hT2 : ∀ t, FR σ t → ∃ b2 m2 w2, kd true t v2 = (0, b2) ∧ lkp atT b2 = some m2 ∧ mid w2 ∧ (∀ st, evS f c2 st = w2 :: st) ∧ MC G g l (D+d+8) m2 [rf v2, rf m] t (fun r u => r = some (jv (zL w2)) ∧ FR t u) := fun t ht => IH t v2 c2 (VAL.keep (hag _ _ ht) (fun _ h => h) _ _ _ h5) (hen _ _ ht hE)
  obtain ⟨-, -, w2, -, -, mw2, ev2, -⟩ := hT2 σ (hrf σ)
  refine ⟨10, 281, opZ (if mm = true then 6 else 5) w1 w2, k1, rfl, opZ_mid mw1 mw2, fun st => ?_, ?_⟩
  · rw [h6, evS_app, evS_app, ev1, ev2, evS_one]
    cases mm with
    | true => exact fO 6 w1 w2 st (by omega) (by omega)
    | false => exact fO 5 w1 w2 st (by omega) (by omega)
  · refine MC1 tX11_at [3, 8, 10] rfl okX11_at rfl rfl rfl rfl (fun P hP => ?_)
    refine hP _ _ _ _ ?_
    refine grd (b := isOb (kd true σ a) _) (by rw [k1]; rfl) ?_
    show P 3 [some (rf a), some (rf m), none, none, none, none] [rf m, rw_ (gR true σ a 1)] σ
    refine hP _ _ _ _ ?_
    refine sv1 (c := b1) (mi := m1) rfl h2 kk1 l1 rfl (mcall C1 (fun r s1 h9 => ?_))
    obtain ⟨rfl, e9⟩ := h9
    have ka : kd true s1 a = (0, 10) := (hag _ _ e9 a pa).2.trans k1
    have ra : gR true s1 a 2 = some (.inl v2) := ((hag _ _ e9 a pa).1 2).2.2.trans h3
    refine grd (b := isOb (kd true s1 a) _) (by rw [ka]; rfl) ?_
    show P 8 [some (rf a), some (rf m), some (jv (zL w1)), none, none, none] [rf m, rw_ (gR true s1 a 2)] s1
    refine hP _ _ _ _ ?_
    obtain ⟨b2, m2, w2', kk2, l2, mw2', ev2', C2⟩ := hT2 s1 e9
    have ew : w2' = w2 := by have := (ev2' []).symm.trans (ev2 []); exact (List.cons.inj this).1
    subst ew
    refine sv1 (c := b2) (mi := m2) rfl ra kk2 l2 rfl (mcall C2 (fun r s2 h9 => ?_))
    obtain ⟨rfl, f9⟩ := h9
    have hF := htr _ _ _ e9 f9
    have ka : kd true s2 a = (0, 10) := (hag _ _ hF a pa).2.trans k1
    have ra : gI s2 a 0 = bI mm := ((hag _ _ hF a pa).1 0).1.trans h1
    show P 10 [some (rf a), some (rf m), some (jv (zL w1)), none, some (jv (zL w2')), none] [] s2
    refine hP _ _ _ _ ?_
    have z1 := mid_in mw1
    have z2 := mid_in mw2
    refine grd (b := isOb (kd true s2 a) _) (by rw [ka]; rfl) ?_
    have fin : ∀ b : Bool, decide (w2' < w1) = b → ∀ x : Int32, x = bI b → ((¬ gI s2 a 0 = x → (some (jv (zL w2')) = some (jv (zL (opZ (if mm = true then 6 else 5) w1 w2'))) ∧ FR σ s2)) ∧ (gI s2 a 0 = x → (some (jv (zL w1)) = some (jv (zL (opZ (if mm = true then 6 else 5) w1 w2'))) ∧ FR σ s2))) := by
      intro b hb x hx
      rw [ra, hx]
      cases mm with
      | true =>
        cases b with
        | true =>
          have hb := of_decide_eq_true hb
          exact ⟨fun q => absurd rfl q, fun _ => ⟨by show _ = some (jv (zL (if w2' < w1 then w1 else w2'))); rw [if_pos hb], hF⟩⟩
        | false =>
          have hb := of_decide_eq_false hb
          exact ⟨fun _ => ⟨by show _ = some (jv (zL (if w2' < w1 then w1 else w2'))); rw [if_neg hb], hF⟩, fun q => absurd q (by decide)⟩
      | false =>
        cases b with
        | true =>
          have hb := of_decide_eq_true hb
          exact ⟨fun _ => ⟨by show _ = some (jv (zL (if w1 < w2' then w1 else w2'))); rw [if_neg (by omega)], hF⟩, fun q => absurd q (by decide)⟩
        | false =>
          have hb := of_decide_eq_false hb
          refine ⟨fun q => absurd rfl q, fun _ => ⟨?_, hF⟩⟩
          show _ = some (jv (zL (if w1 < w2' then w1 else w2')))
          by_cases h8 : w1 < w2'
          · rw [if_pos h8]
          · rw [if_neg h8, show w1 = w2' by omega]
    refine And.intro (fun h9 => ?_) (fun h9 => ?_)
    · have h9 : ¬ w2' < w1 := fun q => Int64.not_lt.mpr ((lg_cmp_le _ _).mp h9) ((zL_lt z2 z1).mpr q)
      exact fin false (decide_eq_false h9) _ rfl
    · have h9 : w2' < w1 := by
        by_cases h8 : w2' < w1
        · exact h8
        · exact absurd ((lg_cmp_le _ _).mpr ((zL_le z1 z2).mpr (by omega))) h9
      exact fin true (decide_eq_true h9) _ rfl
set_option maxHeartbeats 1000000 in
theorem at_chain (q : Bool) (m z : Nat) (f : Nat → List Int → List Int) (FR : AS → AS → Prop) (EN : AS → Prop) (hrf : ∀ s, FR s s) (htr : ∀ s t u, FR s t → FR t u → FR s u) (hag : ∀ s t, FR s t → agr (Qz z) s t) (hen : ∀ s t, FR s t → EN s → EN t) (fO : ∀ (c : Nat) (a b : Int) (st : List Int), 1 ≤ c → c ≤ 6 → f c (b :: a :: st) = opZ c a b :: st) (d : Nat) (IH : ∀ (σ : AS) (a : Nat) (cs : List Nat), VAL (Qz z) q σ d a cs → EN σ → ATR G g l D m f FR d σ a cs) (σ : AS) (a : Nat) (cs : List Nat) (pa : Qz z a) (hE : EN σ) (k1 : kd true σ a = (0, 9)) (lc sc : Nat) (xs : List Itm) (h1 : gR true σ a 0 = some (.inl lc)) (h2 : gR true σ a 1 = some (.inl sc)) (h3 : xs ≠ []) (h4 : LST (Qz z) σ lc (xs.map (fun x => x.1))) (h5 : SBD (Qz z) σ sc (xs.map (fun x => x.2.2))) (h6 : ∀ x ∈ xs, VAL (Qz z) q σ d x.1 x.2.1) (h7 : cs = chC xs) : ATR G g l D m f FR (d+1) σ a cs := by
  have hX : ∀ x ∈ xs, ∀ t, FR σ t → ∃ b2 m2 w2, kd true t x.1 = (0, b2) ∧ lkp atT b2 = some m2 ∧ mid w2 ∧ (∀ st, evS f x.2.1 st = w2 :: st) ∧ MC G g l (D+d+8) m2 [rf x.1, rf m] t (fun r u => r = some (jv (zL w2)) ∧ FR t u) := fun x hx t ht => IH t x.1 x.2.1 (VAL.keep (hag _ _ ht) (fun _ h => h) _ _ _ (h6 x hx)) (hen _ _ ht hE)
  have hcast : ∀ (c mi : Nat), lkp atT c = some mi → [9, 10, 11, 12, 13].contains (kcode0 c) = true := by
    intro c mi hc
    by_cases c9 : c = 9
    · subst c9; rfl
    by_cases c10 : c = 10
    · subst c10; rfl
    by_cases c11 : c = 11
    · subst c11; rfl
    by_cases c12 : c = 12
    · subst c12; rfl
    by_cases c13 : c = 13
    · subst c13; rfl
    exfalso
    have hb : ∀ n, c ≠ n → Nat.beq n c = false := fun n hn => by
      cases hh : Nat.beq n c with
      | false => rfl
      | true => exact absurd (Nat.eq_of_beq_eq_true hh).symm hn
    unfold atT at hc
    simp only [lkp, hb _ c9, hb _ c10, hb _ c11, hb _ c12, hb _ c13] at hc
    cases hc
  cases xs with
  | nil => exact absurd rfl h3
  | cons x0 r =>
    obtain ⟨-, -, w0, -, -, mw0, ev0, -⟩ := hX x0 List.mem_cons_self σ (hrf σ)
    -- values of the rest, one by one
    have hr : ∀ (i : Nat) (x : Itm), r[i]? = some x → ∃ w, mid w ∧ (∀ st, evS f x.2.1 st = w :: st) ∧ ∀ t, FR σ t → ∃ b2 m2, kd true t x.1 = (0, b2) ∧ lkp atT b2 = some m2 ∧ MC G g l (D+d+8) m2 [rf x.1, rf m] t (fun r u => r = some (jv (zL w)) ∧ FR t u) := by
      intro i x hx
      have hmem : x ∈ x0 :: r := List.mem_cons_of_mem _ (List.mem_of_getElem? hx)
      obtain ⟨-, -, w, -, -, mw, ev, -⟩ := hX x hmem σ (hrf σ)
      refine ⟨w, mw, ev, fun t ht => ?_⟩
      obtain ⟨b2, m2, w2, q1, q2, q3, q4, q5⟩ := hX x hmem t ht
      have ew : w2 = w := by have := (q4 []).symm.trans (ev []); exact (List.cons.inj this).1
      subst ew
      exact ⟨b2, m2, q1, q2, q5⟩
    have hsg : ∀ (i : Nat) (x : Itm), r[i]? = some x → sgOK x.2.2 := by
      intro i x hx
      obtain ⟨b, cap, h5⟩ := h5
      exact (h5.2.2.2.2.2.2.2.1 (i+1) x.2.2 (by rw [List.getElem?_map]; show (r[i]?).map _ = _; rw [hx]; rfl)).2
    obtain ⟨vs, hvs⟩ : ∃ vs : Nat → Int, ∀ (i : Nat) (x : Itm), r[i]? = some x → mid (vs i) ∧ (∀ st, evS f x.2.1 st = vs i :: st) ∧ ∀ t, FR σ t → ∃ b2 m2, kd true t x.1 = (0, b2) ∧ lkp atT b2 = some m2 ∧ MC G g l (D+d+8) m2 [rf x.1, rf m] t (fun r u => r = some (jv (zL (vs i))) ∧ FR t u) := by
      refine ⟨fun i => (match r[i]? with
        | some x => (evS f x.2.1 []).headD 0
        | none => 0), fun i x hx => ?_⟩
      obtain ⟨w, q1, q2, q3⟩ := hr i x hx
      simp only [hx]
      rw [show (evS f x.2.1 []).headD 0 = w by rw [q2]; rfl]
      exact ⟨q1, q2, q3⟩
    obtain ⟨w, mw, ew⟩ := chain_ev fO vs r 0 w0 [] mw0 (fun i x hx => by rw [Nat.zero_add]; exact ⟨(hvs i x hx).1, hsg i x hx, (hvs i x hx).2.1⟩)
    have ewa : ∀ st, evS f (itC r) (w0 :: st) = w :: st := by
      intro st
      obtain ⟨w', -, ew'⟩ := chain_ev fO vs r 0 w0 st mw0 (fun i x hx => by rw [Nat.zero_add]; exact ⟨(hvs i x hx).1, hsg i x hx, (hvs i x hx).2.1⟩)
      have key : ∀ (r' : List Itm) (k : Nat) (v : Int), mid v → (∀ (i : Nat) (x : Itm), r'[i]? = some x → mid (vs (k+i)) ∧ sgOK x.2.2 ∧ ∀ st, evS f x.2.1 st = vs (k+i) :: st) → ∀ s1 s2 w1 w2, evS f (itC r') (v :: s1) = w1 :: s1 → evS f (itC r') (v :: s2) = w2 :: s2 → w1 = w2 := by
        intro r'
        induction r' with
        | nil => intro k v _ _ s1 s2 w1 w2 q1 q2; exact ((List.cons.inj q1).1.symm).trans (List.cons.inj q2).1
        | cons x r' ih =>
          intro k v hv hh s1 s2 w1 w2 q1 q2
          obtain ⟨p1, p2, p3⟩ := hh 0 x rfl
          have p4 := opC_le p2
          have e : ∀ s, evS f (itC (x :: r')) (v :: s) = evS f (itC r') (opZ (opC x.2.2) v (vs k) :: s) := by
            intro s
            show evS f ((x.2.1 ++ [opC x.2.2]) ++ itC r') (v :: s) = _
            rw [evS_app, evS_app, p3, evS_one, fO _ _ _ _ p4.1 (by omega)]
            rfl
          rw [e] at q1 q2
          exact ih (k+1) _ (opZ_mid hv p1) (fun i y hy => by
            have := hh (i+1) y hy
            rw [show k + 1 + i = k + (i + 1) by omega]
            exact this) s1 s2 w1 w2 q1 q2
      rw [ew', key r 0 w0 mw0 (fun i x hx => by rw [Nat.zero_add]; exact ⟨(hvs i x hx).1, hsg i x hx, (hvs i x hx).2.1⟩) st [] w' w ew' ew]
    refine ⟨9, 278, w, k1, rfl, mw, fun st => ?_, ?_⟩
    · rw [h7]
      show evS f (x0.2.1 ++ itC r) st = _
      rw [evS_app, ev0, ewa]
    · refine MC1 tX10_at [3, 6, 10, 13, 18, 23, 26] rfl okX10_at rfl rfl rfl rfl (fun P hP => ?_)
      have hlen : ((x0 :: r).map (fun x => x.1)).length = r.length + 1 := by simp
      have hcap : r.length + 1 ≤ 4000 := by obtain ⟨e, cap, h4⟩ := h4; have := h4.2.2.2.2.2.1.2.2; omega
      have key : ∀ (k j : Nat) (v : Int) (t : AS), k + j = r.length → mid v → FR σ t → evS f (itC (r.drop j)) (v :: []) = w :: [] → P 10 [some (rf a), some (rf m), some (jv (zL v)), none, some (iv (nI (j+1)))] [] t := by
        intro k
        induction k with
        | zero =>
          intro j v t hj hv ht he
          have ka : kd true t a = (0, 9) := (hag _ _ ht a pa).2.trans k1
          have ra : gR true t a 0 = some (.inl lc) := ((hag _ _ ht a pa).1 0).2.2.trans h1
          have hl : LST (Qz z) t lc ((x0 :: r).map (fun x => x.1)) := h4.keep (hag _ _ ht) (fun _ h => h)
          refine hP _ _ _ _ ?_
          refine grd (b := isOb (kd true t a) _) (by rw [ka]; rfl) ?_
          show P 13 [some (rf a), some (rf m), some (jv (zL v)), none, some (iv (nI (j+1)))] [rw_ (gR true t a 0), iv (nI (j+1))] t
          refine hP _ _ _ _ ?_
          refine si0 rfl ra hl.kd rfl rfl (mcall (l_size G g l (D+d+7) t hl) (fun r' s1 h9 => ?_))
          obtain ⟨rfl, e9⟩ := h9
          subst e9
          have hd : r.drop j = [] := List.drop_eq_nil_of_le (by omega)
          rw [hd] at he
          have ev : v = w := (List.cons.inj he).1
          subst ev
          refine And.intro (fun _ => ⟨rfl, ht⟩) (fun q => absurd (show nI (List.map (fun x => x.1) (x0 :: r)).length ≤ nI (j+1) from ?_) q)
          rw [nI_leI (by omega) (by omega)]
          omega
        | succ k ih =>
          intro j v t hj hv ht he
          have ka : kd true t a = (0, 9) := (hag _ _ ht a pa).2.trans k1
          have ra : gR true t a 0 = some (.inl lc) := ((hag _ _ ht a pa).1 0).2.2.trans h1
          have rb : gR true t a 1 = some (.inl sc) := ((hag _ _ ht a pa).1 1).2.2.trans h2
          have hl : LST (Qz z) t lc ((x0 :: r).map (fun x => x.1)) := h4.keep (hag _ _ ht) (fun _ h => h)
          have hs : SBD (Qz z) t sc ((x0 :: r).map (fun x => x.2.2)) := h5.keep (hag _ _ ht) (fun _ h => h)
          have ks : kd true t sc = (0, 21) := by obtain ⟨b, cap, hs⟩ := hs; exact hs.2.1
          obtain ⟨x, hx⟩ : ∃ x, r[j]? = some x := ⟨_, List.getElem?_eq_getElem (by omega)⟩
          obtain ⟨p1, p2, p3⟩ := hvs j x hx
          have p4 := hsg j x hx
          obtain ⟨b2, m2, q1, q2, q3⟩ := p3 t ht
          have hdr : r.drop j = x :: r.drop (j+1) := by
            rw [List.drop_eq_getElem_cons (by omega : j < r.length)]
            have : r[j] = x := (List.getElem?_eq_some_iff.mp hx).2
            rw [this]
          refine hP _ _ _ _ ?_
          refine grd (b := isOb (kd true t a) _) (by rw [ka]; rfl) ?_
          show P 13 [some (rf a), some (rf m), some (jv (zL v)), none, some (iv (nI (j+1)))] [rw_ (gR true t a 0), iv (nI (j+1))] t
          refine hP _ _ _ _ ?_
          refine si0 rfl ra hl.kd rfl rfl (mcall (l_size G g l (D+d+7) t hl) (fun r' s1 h9 => ?_))
          obtain ⟨rfl, e9⟩ := h9
          subst e9
          refine And.intro (fun q => absurd (show nI (List.map (fun x => x.1) (x0 :: r)).length ≤ nI (j+1) from q) ?_) (fun _ => ?_)
          · rw [nI_leI (by omega) (by omega)]
            omega
          refine grd (b := isOb (kd true s1 a) _) (by rw [ka]; rfl) ?_
          show P 18 [some (rf a), some (rf m), some (jv (zL v)), none, some (iv (nI (j+1)))] [iv (nI (j+1)), rw_ (gR true s1 a 1)] s1
          refine hP _ _ _ _ ?_
          refine sv1 rfl rb ks rfl rfl (mcall (l_charAt15 G g l (D+d+4) s1 hs _ (j+1) x.2.2 rfl (by rw [List.getElem?_map]; show (r[j]?).map _ = _; rw [hx]; rfl)) (fun r' s2 h9 => ?_))
          obtain ⟨rfl, e9⟩ := h9
          subst e9
          refine grd (b := isOb (kd true s2 a) _) (by rw [ka]; rfl) ?_
          show P 23 [some (rf a), some (rf m), some (jv (zL v)), none, some (iv (nI (j+1)))] [iv (nI (j+1)), rw_ (gR true s2 a 0), jv (zL v), iv (nI x.2.2)] s2
          refine hP _ _ _ _ ?_
          refine si1 rfl ra hl.kd rfl rfl (mcall (l_get G g l (D+d+5) s2 hl _ (j+1) x.1 rfl (by rw [List.getElem?_map]; show (r[j]?).map _ = _; rw [hx]; rfl)) (fun r' s3 h9 => ?_))
          obtain ⟨rfl, e9⟩ := h9
          subst e9
          refine grd (b := List.contains _ (kcode (kd true s3 x.1))) (by rw [q1]; exact hcast b2 m2 q2) ?_
          show P 26 [some (rf a), some (rf m), some (jv (zL v)), none, some (iv (nI (j+1)))] [rf m, rf x.1, jv (zL v), iv (nI x.2.2)] s3
          refine hP _ _ _ _ ?_
          refine sv1 (r := some (.inl x.1)) rfl rfl q1 q2 rfl (mcall q3 (fun r' s4 h9 => ?_))
          obtain ⟨rfl, e9⟩ := h9
          refine mcall (x_two G g l (D+d+6) s4 _ x.2.2 _ _ v (vs j) rfl rfl rfl p4 hv p1) (fun r' s5 h9 => ?_)
          obtain ⟨rfl, f9⟩ := h9
          subst f9
          refine mcall (x_held G g l (D+d+6) s5 _ (rawZ x.2.2 v (vs j)) rfl (rawZ_in p4 hv p1)) (fun r' s6 h9 => ?_)
          obtain ⟨rfl, f9⟩ := h9
          subst f9
          show P 10 [some (rf a), some (rf m), some (jv (zL (clipZ (rawZ x.2.2 v (vs j))))), none, some (iv (nI (j+1) + nI 1))] [] s6
          rw [nI_add, rawZ_op p4 hv p1]
          refine ih (j+1) _ s6 (by omega) (opZ_mid hv p1) (htr _ _ _ ht e9) ?_
          rw [hdr] at he
          have p5 := opC_le p4
          rw [← he]
          show _ = evS f ((x.2.1 ++ [opC x.2.2]) ++ itC (r.drop (j+1))) [v]
          rw [evS_app, evS_app, p2, evS_one, fO _ _ _ _ p5.1 (by omega)]
      refine hP _ _ _ _ ?_
      refine grd (b := isOb (kd true σ a) _) (by rw [k1]; rfl) ?_
      show P 3 [some (rf a), some (rf m), none, none, none] [iv (nI 0), rw_ (gR true σ a 0)] σ
      refine hP _ _ _ _ ?_
      obtain ⟨b2, m2, w2, q1, q2, q3, q4, q5⟩ := hX x0 List.mem_cons_self σ (hrf σ)
      have ew2 : w2 = w0 := by have := (q4 []).symm.trans (ev0 []); exact (List.cons.inj this).1
      subst ew2
      refine si1 rfl h1 h4.kd rfl rfl (mcall (l_get G g l (D+d+5) σ h4 _ 0 x0.1 rfl rfl) (fun r' s3 h9 => ?_))
      obtain ⟨rfl, e9⟩ := h9
      subst e9
      refine grd (b := List.contains _ (kcode (kd true s3 x0.1))) (by rw [q1]; exact hcast b2 m2 q2) ?_
      show P 6 [some (rf a), some (rf m), none, none, none] [rf m, rf x0.1] s3
      refine hP _ _ _ _ ?_
      refine sv1 (r := some (.inl x0.1)) rfl rfl q1 q2 rfl (mcall q5 (fun r' s4 h9 => ?_))
      obtain ⟨rfl, e9⟩ := h9
      exact key r.length 0 w2 s4 (by omega) mw0 e9 ew
theorem at_look (q : Bool) (m z : Nat) (f : Nat → List Int → List Int) (FR : AS → AS → Prop) (EN : AS → Prop) (hrf : ∀ s, FR s s) (htr : ∀ s t u, FR s t → FR t u → FR s u) (hag : ∀ s t, FR s t → agr (Qz z) s t) (hen : ∀ s t, FR s t → EN s → EN t) (qf : Nat → Int → Int) (fL : ∀ (k : Nat) (a : Int) (st : List Int), q = true → k < 3 → mid a → f (60 + k) (a :: st) = clipZ (qf k a) :: st) (hlk : q = true → ∀ (s : AS) (k : Nat) (a : Int) (dd : Nat), EN s → k < 3 → mid a → inZ (qf k a) ∧ MC G g l (D+dd+7) mX0_looked [tX, iv (nI k), jv (zL a)] s (fun r t => r = some (jv (zL (qf k a))) ∧ FR s t)) (d : Nat) (IH : ∀ (σ : AS) (a : Nat) (cs : List Nat), VAL (Qz z) q σ d a cs → EN σ → ATR G g l D m f FR d σ a cs) (σ : AS) (a : Nat) (cs : List Nat) (hE : EN σ) (k1 : kd true σ a = (0, 13)) (hq : q = true) (k v : Nat) (c1 : List Nat) (h1 : k < 3) (h2 : gI σ a 0 = nI k) (h3 : gR true σ a 1 = some (.inl v)) (h4 : gR true σ a 2 = some (.inl 0)) (h5 : VAL (Qz z) q σ d v c1) (h6 : cs = c1 ++ [60 + k]) : ATR G g l D m f FR (d+1) σ a cs := by
  obtain ⟨b1, m1, w1, kk1, l1, mw1, ev1, C1⟩ := IH σ v c1 h5 hE
  refine ⟨13, 287, clipZ (qf k w1), k1, rfl, clipZ_in _, fun st => by rw [h6, evS_app, ev1, evS_one, fL k w1 st hq h1 mw1], ?_⟩
  refine MC1 tX14_at [2, 7] rfl okX14_at rfl rfl rfl rfl (fun P hP => ?_)
  refine hP _ _ _ _ ?_
  refine grd (b := isOb (kd true σ a) _) (by rw [k1]; rfl) ?_
  show P 2 [some (rf a), some (rf m)] [rw_ (gR true σ a 2)] σ
  rw [h4]
  refine hP _ _ _ _ ?_
  refine grd (b := isOb (kd true σ a) _) (by rw [k1]; rfl) ?_
  refine grd (b := isOb (kd true σ a) _) (by rw [k1]; rfl) ?_
  show P 7 [some (rf a), some (rf m)] [rf m, rw_ (gR true σ a 1), iv (gI σ a 0), tX] σ
  rw [h2]
  refine hP _ _ _ _ ?_
  refine sv1 (c := b1) (mi := m1) rfl h3 kk1 l1 rfl (mcall C1 (fun r s1 h9 => ?_))
  obtain ⟨rfl, e9⟩ := h9
  obtain ⟨z9, K9⟩ := hlk hq s1 k w1 (d+1) (hen _ _ e9 hE) h1 mw1
  refine mcall K9 (fun r s2 h9 => ?_)
  obtain ⟨rfl, f9⟩ := h9
  refine mcall (x_held G g l (D+d+6) s2 _ (qf k w1) rfl z9) (fun r s3 h9 => ?_)
  obtain ⟨rfl, g9⟩ := h9
  subst g9
  exact ⟨rfl, htr _ _ _ e9 f9⟩
theorem x_at (q : Bool) (m z : Nat) (f : Nat → List Int → List Int) (A : Nat → Int) (qf : Nat → Int → Int) (FR : AS → AS → Prop) (EN : AS → Prop)
    (hm : m = 11 ∨ m = 13) (hrf : ∀ s, FR s s) (htr : ∀ s t u, FR s t → FR t u → FR s u) (hag : ∀ s t, FR s t → agr (Qz z) s t) (hen : ∀ s t, FR s t → EN s → EN t)
    (has : ∀ s k, EN s → askOK q k → gL s (m+1) k = zL (A k) ∧ inZ (A k))
    (f1 : ∀ n st, n ≤ 9999 → f (1000 + n) st = (n : Int) :: st) (fA : ∀ k st, askOK q k → f (askC q k) st = clipZ (A k) :: st)
    (fO : ∀ (c : Nat) (a b : Int) (st : List Int), 1 ≤ c → c ≤ 6 → f c (b :: a :: st) = opZ c a b :: st)
    (fL : ∀ (k : Nat) (a : Int) (st : List Int), q = true → k < 3 → mid a → f (60 + k) (a :: st) = clipZ (qf k a) :: st)
    (hlk : q = true → ∀ (s : AS) (k : Nat) (a : Int) (dd : Nat), EN s → k < 3 → mid a → inZ (qf k a) ∧ MC G g l (D+dd+7) mX0_looked [tX, iv (nI k), jv (zL a)] s (fun r t => r = some (jv (zL (qf k a))) ∧ FR s t)) :
    ∀ (d : Nat) (σ : AS) (a : Nat) (cs : List Nat), VAL (Qz z) q σ d a cs → EN σ → ATR G g l D m f FR d σ a cs := by
  intro d
  induction d with
  | zero => intro σ a cs h hE; exact h.elim
  | succ d IH =>
    intro σ a cs h hE
    obtain ⟨pa, h⟩ := h
    rcases h with ⟨k1, n, h1, h2, h3⟩ | ⟨k1, k, h1, h2, h3⟩ | ⟨k1, mm, v1, v2, c1, c2, h1, h2, h3, h4, h5, h6⟩ | ⟨k1, lc, sc, xs, h1, h2, h3, h4, h5, h6, h7⟩ | ⟨k1, hq, k, v, c1, h1, h2, h3, h4, h5, h6⟩
    · exact at_fix G g l D m f FR hrf f1 d σ a n cs k1 h1 h2 h3
    · exact at_ask G g l D q m f A FR EN hm hrf has fA d σ a k cs hE k1 h1 h2 h3
    · exact at_pair G g l D q m z f FR EN hrf htr hag hen fO d IH σ a cs pa hE k1 mm v1 v2 c1 c2 h1 h2 h3 h4 h5 h6
    · exact at_chain G g l D q m z f FR EN hrf htr hag hen fO d IH σ a cs pa hE k1 lc sc xs h1 h2 h3 h4 h5 h6 h7
    · exact at_look G g l D q m z f FR EN hrf htr hag hen qf fL hlk d IH σ a cs hE k1 hq k v c1 h1 h2 h3 h4 h5 h6
end AT_
