section MS_
variable (G : CX) (g : GX) (l : Launch) (d : Nat) (σ : AS)
def allR (p : Nat → Bool) : Nat → Nat → Bool
  | 0, _ => true
  | m+1, j => p j && allR p m (j+1)
def rowOK (T : Twn) (tp : List Nat) (k : Nat) : Bool := decide (tp[4 * k]! < Tns T) && decide (tp[4 * k + 3]! ≤ 99)
def okSee (T : Twn) (tp : List Nat) : Bool := decide (tp.length ≠ 0 ∧ tp.length % 4 = 0 ∧ tp.length / 4 ≤ 20) && allR (rowOK T tp) (tp.length / 4) 0
abbrev Sig : Type := Nat × Nat × Nat
def sigAt (tp : List Nat) (k : Nat) : Sig := (tp[4 * k]!, 256 * tp[4 * k + 1]! + tp[4 * k + 2]!, tp[4 * k + 3]!)
def sightsOf (tp : List Nat) : List Sig := (List.range (tp.length / 4)).map (sigAt tp)
def MSi (ss : List Sig) (σ : AS) : Prop := ss.length ≤ 20 ∧ gI σ 200 66 = nI ss.length ∧ ∀ (k : Nat) (x : Sig), ss[k]? = some x → gI σ 243 (3 * k) = nI x.1 ∧ gI σ 243 (3 * k + 1) = nI x.2.1 ∧ gI σ 243 (3 * k + 2) = nI x.2.2 ∧ x.1 < 256 ∧ x.2.1 < 65536 ∧ x.2.2 < 256
theorem MSi.keep {ss : List Sig} {σ t : AS} {fs ids : List Nat} (h : MSi ss σ) (hS : mS fs ids σ t) (h1 : ids.contains 243 = false) (h2 : (ids.contains 200 || fs.contains 66) = false) : MSi ss t := by
  rw [Bool.or_eq_false_iff] at h2
  refine ⟨h.1, by rw [hS.i 200 66 h2.1 (by rw [h2.2]; rfl)]; exact h.2.1, fun k x e => ?_⟩
  rw [hS.ia 243 h1 rfl, hS.ia 243 h1 rfl, hS.ia 243 h1 rfl]
  exact h.2.2 k x e
set_option maxHeartbeats 1000000 in
theorem c_areRows (T : Twn) (h : MTn T σ) (hT : TOK T) (tp : List Nat) (hb : MTb tp σ) (x : Int32) (hx : x = nI tp.length) : MC G g l (d+3) mX6_areRows [tM, iv x] σ (fun r t => r = some (iv (bI (okSee T tp))) ∧ t = σ) := by
  subst hx
  have hl := hb.1
  have h12 := hT.1
  refine MC1 tX6_areRows [11, 15, 33] rfl okX6_areRows rfl rfl rfl rfl (fun P hP => ?_)
  have no : okSee T tp = false → P 11 [some tM, some (iv (nI tp.length)), none] [] σ := fun e => hP _ _ _ _ ⟨nar0, by rw [e]; rfl, rfl⟩
  have no3 : ∀ x2, okSee T tp = false → P 33 [some tM, some (iv (nI tp.length)), x2] [] σ := fun x2 e => hP _ _ _ _ ⟨nar0, by rw [e]; rfl, rfl⟩
  have nd : ¬ (tp.length ≠ 0 ∧ tp.length % 4 = 0 ∧ tp.length / 4 ≤ 20) → okSee T tp = false := fun e => by unfold okSee; rw [decide_eq_false e]; rfl
  refine hP _ _ _ _ ?_
  refine And.intro (fun q => no (nd ?_)) (fun q => ?_)
  · have q : tp.length = 0 := (nI_eq (by omega) (by omega)).mp q
    omega
  have q0 : tp.length ≠ 0 := fun e => q (by rw [e])
  refine And.intro (by decide) (And.intro (fun q => no (nd ?_)) (fun q => ?_))
  · have q : ¬ nI tp.length - nI tp.length / nI 4 * nI 4 = nI 0 := q
    rw [pk_rem (by omega) (by omega) (by omega), nI_eq (by omega) (by omega)] at q
    omega
  have q1 : tp.length % 4 = 0 := by
    have q : nI tp.length - nI tp.length / nI 4 * nI 4 = nI 0 := q
    rw [pk_rem (by omega) (by omega) (by omega), nI_eq (by omega) (by omega)] at q
    exact q
  refine And.intro (by decide) (And.intro (fun q => ?_) (fun q => no (nd ?_)))
  · have q : nI tp.length / nI 4 ≤ nI 20 := q
    rw [pk_div (by omega) (by omega) (by omega), nI_leI (by omega) (by omega)] at q
    have ok : okSee T tp = allR (rowOK T tp) (tp.length / 4) 0 := by
      unfold okSee
      rw [decide_eq_true ⟨q0, q1, q⟩]
      rfl
    have key : ∀ (m k : Nat) (x : Int32), x = nI (4 * k) → k + m = tp.length / 4 → okSee T tp = allR (rowOK T tp) m k → P 15 [some tM, some (iv (nI tp.length)), some (iv x)] [] σ := by
      intro m
      induction m with
      | zero =>
        intro k x hx hm he
        have hk : 4 * k = tp.length := by omega
        rw [hx, hk]
        exact hP _ _ _ _ (And.intro (fun _ => ⟨nar1, by rw [he]; rfl, rfl⟩) (fun q => absurd (Int32.le_refl _) q))
      | succ m ih =>
        intro k x hx hm he
        subst hx
        obtain ⟨a1, a2⟩ := hb.at (k := 4 * k) (by omega)
        obtain ⟨b1, b2⟩ := hb.at (k := 4 * k + 3) (by omega)
        have c1 : (nI (4 * k)).toNatClampNeg = 4 * k := clN (by omega)
        have c2 : (nI (4 * k) + nI 3).toNatClampNeg = 4 * k + 3 := by rw [nI_add, clN (by omega)]
        refine hP _ _ _ _ (And.intro (fun q => absurd q (nI_ge (by omega) (by omega))) (fun _ => And.intro (show vp_in (nI (4 * k)) 1600 from vinN (by omega) (by decide)) ?_))
        refine mcall (c_isStreet G g l d σ T (gI σ 201 (nI (4 * k)).toNatClampNeg) h hT) (fun r s' h9 => ?_)
        obtain ⟨rfl, rfl⟩ := h9
        have eR : inR (gI s' 201 (nI (4 * k)).toNatClampNeg) (Tns T) = decide (tp[4 * k]! < Tns T) := by
          rw [c1, a1]
          unfold inR
          rw [nI_toInt (by omega)]
          apply decide_eq_decide.mpr
          omega
        rw [eR]
        by_cases hs : tp[4 * k]! < Tns T
        · rw [decide_eq_true hs]
          refine And.intro (fun q => absurd q (by decide)) (fun _ => And.intro ?_ (And.intro (fun q => ?_) (fun q => ?_)))
          · show vp_in (nI (4 * k) + nI 3) 1600
            rw [nI_add]
            exact vinN (by omega) (by decide)
          · have q : gI s' 201 (nI (4 * k) + nI 3).toNatClampNeg ≤ nI 99 := q
            rw [c2, b1, nI_leI (by omega) (by omega)] at q
            refine ih (k+1) _ ?_ (by omega) ?_
            · show nI (4 * k) + nI 4 = _
              rw [nI_add]
              rfl
            · rw [he]
              show (rowOK T tp k && _) = _
              unfold rowOK
              rw [decide_eq_true hs, decide_eq_true q]
              rfl
          · have q : ¬ gI s' 201 (nI (4 * k) + nI 3).toNatClampNeg ≤ nI 99 := q
            rw [c2, b1, nI_leI (by omega) (by omega)] at q
            refine no3 _ ?_
            rw [he]
            show (rowOK T tp k && _) = _
            unfold rowOK
            rw [decide_eq_true hs, decide_eq_false q]
            rfl
        · rw [decide_eq_false hs]
          refine And.intro (fun _ => no3 _ ?_) (fun q => absurd rfl q)
          rw [he]
          show (rowOK T tp k && _) = _
          unfold rowOK
          rw [decide_eq_false hs]
          rfl
    exact key (tp.length / 4) 0 _ rfl (by omega) ok
  · have q : ¬ nI tp.length / nI 4 ≤ nI 20 := q
    rw [pk_div (by omega) (by omega) (by omega), nI_leI (by omega) (by omega)] at q
    omega
set_option maxHeartbeats 1000000 in
theorem c_see (T : Twn) (h : MTn T σ) (hT : TOK T) (tp : List Nat) (hp : MTp tp σ) : MC G g l (d+4) mX6_see [tM] σ (fun r t => MTp [] t ∧ if okSee T tp = true then (r = some (iv (nI (tp.length / 4))) ∧ mS [1, 66] [243] σ t ∧ MSi (sightsOf tp) t) else (r = some (iv (- nI 1)) ∧ mS [1] [202] σ t ∧ RefInc 1 σ t)) := by
  have hl := hp.1.1
  refine MC1 tX6_see [27] rfl okX6_see rfl rfl rfl rfl (fun P hP => hP _ _ _ _ ?_)
  have S1 : mS [1] [] σ (sI σ 200 1 (nI 0)) := mS.rf.f rfl
  have B1 : MTb tp (sI σ 200 1 (nI 0)) := hp.1.keep S1 rfl
  have em : ∀ τ, gI τ 200 1 = nI 0 → MTp [] τ := fun τ e => ⟨⟨Nat.zero_le _, fun k x q => by cases q⟩, e⟩
  refine mcall (c_areRows G g l d (sI σ 200 1 (nI 0)) T (h.keep S1 rfl) hT tp B1 _ hp.2) (fun r s' h9 => ?_)
  obtain ⟨rfl, rfl⟩ := h9
  cases hk : okSee T tp with
  | false =>
    refine And.intro (fun q => absurd rfl q) (fun _ => And.intro (vin 1 6 rfl rfl) (And.intro (vin 1 6 rfl rfl) ⟨em _ rfl, ?_⟩))
    show if false = true then _ else _
    rw [if_neg (by decide)]
    exact ⟨rfl, (S1.mono rfl rfl).a rfl, RefInc.mk 1 _⟩
  | true =>
    refine And.intro (fun _ => And.intro (by decide) ?_) (fun q => absurd q (by decide))
    have hk' := hk
    unfold okSee at hk'
    rw [Bool.and_eq_true, decide_eq_true_eq] at hk'
    obtain ⟨⟨n0, n1, n2⟩, -⟩ := hk'
    have e0 : gI σ 200 1 / nI 4 = nI (tp.length / 4) := by rw [hp.2, pk_div (by omega) (by omega) (by omega)]
    have key : ∀ (m k : Nat) (τ : AS), k + m = tp.length / 4 → mS [1, 66] [243] σ τ → gI τ 200 1 = nI 0 → gI τ 200 66 = nI (tp.length / 4) → (∀ j, j < k → gI τ 243 (3 * j) = nI (sigAt tp j).1 ∧ gI τ 243 (3 * j + 1) = nI (sigAt tp j).2.1 ∧ gI τ 243 (3 * j + 2) = nI (sigAt tp j).2.2) → P 27 [some tM, some (iv (gI σ 200 1)), some (iv (nI k))] [] τ := by
      intro m
      induction m with
      | zero =>
        intro k τ hm hS ht hr hj
        have hk9 : k = tp.length / 4 := by omega
        refine hP _ _ _ _ (And.intro (fun _ => ⟨em _ ht, ?_⟩) (fun q => absurd ?_ q))
        · show if okSee T tp = true then _ else _
          rw [if_pos hk]
          refine ⟨congrArg _ (congrArg _ hr), hS, ⟨?_, ?_, fun j x e => ?_⟩⟩
          · unfold sightsOf; rw [List.length_map, List.length_range]; exact n2
          · unfold sightsOf; rw [List.length_map, List.length_range]; exact hr
          · unfold sightsOf at e
            rw [List.getElem?_map] at e
            by_cases hj9 : j < tp.length / 4
            · rw [List.getElem?_range hj9] at e
              have e : some (sigAt tp j) = some x := e
              cases e
              obtain ⟨a, b, c⟩ := hj j (by omega)
              have a1 := (hp.1.at (k := 4 * j) (by omega)).2
              have a2 := (hp.1.at (k := 4 * j + 1) (by omega)).2
              have a3 := (hp.1.at (k := 4 * j + 2) (by omega)).2
              have a4 := (hp.1.at (k := 4 * j + 3) (by omega)).2
              exact ⟨a, b, c, a1, (by show 256 * tp[4 * j + 1]! + tp[4 * j + 2]! < 65536; omega), a4⟩
            · rw [List.getElem?_eq_none (by rw [List.length_range]; omega)] at e
              cases e
        · show gI τ 200 66 ≤ nI k
          rw [hr, hk9]
          exact Int32.le_refl _
      | succ m ih =>
        intro k τ hm hS ht hr hj
        have Bt : MTb tp τ := hp.1.keep hS rfl
        have a1 := Bt.at (k := 4 * k) (by omega)
        have a2 := Bt.at (k := 4 * k + 1) (by omega)
        have a3 := Bt.at (k := 4 * k + 2) (by omega)
        have a4 := Bt.at (k := 4 * k + 3) (by omega)
        refine hP _ _ _ _ (And.intro (fun q => ?_) (fun _ => ?_))
        · have q : gI τ 200 66 ≤ nI k := q
          rw [hr, nI_leI (by omega) (by omega)] at q
          omega
        · have t0 : nI 4 * nI k = nI (4 * k) := pk_mul _ _
          have t1 : nI 4 * nI k + nI 1 = nI (4 * k + 1) := by rw [t0, nI_add]
          have t2 : nI 4 * nI k + nI 2 = nI (4 * k + 2) := by rw [t0, nI_add]
          have t3 : nI 4 * nI k + nI 3 = nI (4 * k + 3) := by rw [t0, nI_add]
          have u0 : nI 3 * nI k = nI (3 * k) := pk_mul _ _
          have u1 : nI 3 * nI k + nI 1 = nI (3 * k + 1) := by rw [u0, nI_add]
          have u2 : nI 3 * nI k + nI 2 = nI (3 * k + 2) := by rw [u0, nI_add]
          have k4 : 4 * k + 3 < 1600 := by omega
          have k3 : 3 * k + 2 < 60 := by omega
          refine And.intro (show vp_in (nI 4 * nI k) 1600 from by rw [t0]; exact vinN (by omega) (by decide)) (And.intro (show vp_in (nI 3 * nI k) 60 from by rw [u0]; exact vinN (by omega) (by decide)) (And.intro (show vp_in (nI 4 * nI k + nI 1) 1600 from by rw [t1]; exact vinN (by omega) (by decide)) (And.intro (show vp_in (nI 4 * nI k + nI 2) 1600 from by rw [t2]; exact vinN (by omega) (by decide)) (And.intro (show vp_in (nI 3 * nI k + nI 1) 60 from by rw [u1]; exact vinN (by omega) (by decide)) (And.intro (show vp_in (nI 4 * nI k + nI 3) 1600 from by rw [t3]; exact vinN (by omega) (by decide)) (And.intro (show vp_in (nI 3 * nI k + nI 2) 60 from by rw [u2]; exact vinN (by omega) (by decide)) ?_))))))
          show P 27 [some tM, some (iv (gI σ 200 1)), some (iv (nI k + nI 1))] [] (sI (sI (sI τ 243 (nI 3 * nI k).toNatClampNeg (gI τ 201 (nI 4 * nI k).toNatClampNeg)) 243 (nI 3 * nI k + nI 1).toNatClampNeg (nI 256 * gI τ 201 (nI 4 * nI k + nI 1).toNatClampNeg + gI τ 201 (nI 4 * nI k + nI 2).toNatClampNeg)) 243 (nI 3 * nI k + nI 2).toNatClampNeg (gI τ 201 (nI 4 * nI k + nI 3).toNatClampNeg))
          rw [nI_add k 1, t1, t2, t3, t0, u1, u2, u0, clN (by omega), clN (by omega), clN (by omega), clN (by omega), clN (by omega), clN (by omega), clN (by omega), a1.1, a2.1, a3.1, a4.1, pk_mul, nI_add]
          refine ih (k+1) _ (by omega) (((hS.a rfl).a rfl).a rfl) ht hr (fun j hj9 => ?_)
          rw [gI_sI, gI_sI, gI_sI, gI_sI, gI_sI, gI_sI, gI_sI, gI_sI, gI_sI]
          by_cases e : j = k
          · subst e
            rw [if_neg (by omega), if_neg (by omega), if_pos ⟨rfl, rfl⟩, if_neg (by omega), if_pos ⟨rfl, rfl⟩, if_pos ⟨rfl, rfl⟩]
            exact ⟨rfl, rfl, rfl⟩
          · rw [if_neg (by omega), if_neg (by omega), if_neg (by omega), if_neg (by omega), if_neg (by omega), if_neg (by omega), if_neg (by omega), if_neg (by omega), if_neg (by omega)]
            exact hj j (by omega)
    exact key (tp.length / 4) 0 _ (by omega) ((S1.mono rfl rfl).f rfl) rfl e0 (fun j hj => by omega)
end MS_
