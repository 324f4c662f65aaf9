section MO
variable (G : CX) (g : GX) (l : Launch) (d : Nat) (σ : AS)
def drawN (sd : Nat) : Nat := (1103515245 * sd + 12345) % 2147483648
theorem drawN_lt (sd : Nat) : drawN sd < 2147483648 := Nat.mod_lt _ (by decide)
theorem c_drawOf (x : Int32) (m sd : Nat) (hx : x = nI m) (hm : 1 ≤ m) (hm2 : m ≤ 1000) (hsd : gL σ 200 65 = lN sd) (hlt : sd < 2147483648) : MC G g l (d+1) mX6_drawOf [tM, iv x] σ (fun r t => r = some (iv (nI (drawN sd / 64 % m))) ∧ mS [65] [] σ t ∧ gL t 200 65 = lN (drawN sd)) := by
  subst hx
  have hd := drawN_lt sd
  have hd2 : drawN sd / 64 ≤ drawN sd := Nat.div_le_self _ _
  have e1 : lN 1103515245 * gL σ 200 65 + lN 12345 - (lN 1103515245 * gL σ 200 65 + lN 12345) / lN 2147483648 * lN 2147483648 = lN (drawN sd) := by
    rw [hsd, lN_mul, lN_add, pk_lRem (by omega) (by omega) (by omega)]
    rfl
  refine MC0 tX6_drawOf rfl okX6_drawOf rfl rfl rfl rfl (fun P => ?_)
  refine And.intro (by decide) (And.intro (by decide) (And.intro ?_ ⟨?_, mS.rf.fl rfl, e1⟩))
  · show ¬ (nI m).toInt64 = 0
    rw [nI_l (by omega)]
    intro e
    have := (lN_eq (a := m) (b := 0) (by omega) (by omega)).mp e
    omega
  · show some (Sum.inl ((lN 1103515245 * gL σ 200 65 + lN 12345 - (lN 1103515245 * gL σ 200 65 + lN 12345) / lN 2147483648 * lN 2147483648) / lN 64 - (lN 1103515245 * gL σ 200 65 + lN 12345 - (lN 1103515245 * gL σ 200 65 + lN 12345) / lN 2147483648 * lN 2147483648) / lN 64 / (nI m).toInt64 * (nI m).toInt64).toInt32) = _
    rw [e1, nI_l (by omega), pk_lDiv (by omega) (by omega) (by omega), pk_lRem (by omega) (by omega) (by omega), lN_i]
/-- a day goes by -/
def day1 (T : Twn) (p : Nws × Nat) : Nws × Nat := if Tns T = 0 then (setHr p.1 (Nhr p.1 + 24), p.2) else (setSh (setHr p.1 (Nhr p.1 + 24)) (drawN p.2 / 64 % Tns T) ((Nsh p.1 (drawN p.2 / 64 % Tns T) + drawN (drawN p.2) / 64 % 3 + 100 * Trd T (drawN p.2 / 64 % Tns T) - 1) % Trd T (drawN p.2 / 64 % Tns T)), drawN (drawN p.2))
def dayN (T : Twn) : Nat → Nws × Nat → Nws × Nat
  | 0, p => p
  | k+1, p => dayN T k (day1 T p)
theorem day1_hr (T : Twn) (p : Nws × Nat) : Nhr (day1 T p).1 = Nhr p.1 + 24 := by
  unfold day1
  split <;> rfl
theorem NOK.day {T : Twn} {p : Nws × Nat} (hT : TOK T) (h : NOK T p.1) (hh : Nhr p.1 + 24 ≤ 9999) : NOK T (day1 T p).1 := by
  unfold day1
  split
  · exact ⟨hh, h.2.1, h.2.2⟩
  · rename_i hn
    refine ⟨hh, fun s hs => ?_, h.2.2⟩
    have hr := (hT.2.1 s hs).2.2.2.2.1
    show (if s = drawN p.2 / 64 % Tns T then _ else _) < Trd T s
    by_cases e : s = drawN p.2 / 64 % Tns T
    · rw [if_pos e, ← e]; exact Nat.mod_lt _ (by omega)
    · rw [if_neg e]; exact h.2.1 s hs
def okDays (n : Nws) (x : Int32) : Bool := btw x 1 30 && decide (Nhr n + 24 * x.toNatClampNeg ≤ 9999)
set_option maxHeartbeats 2000000 in
theorem c_days (T : Twn) (n : Nws) (ks : List Nws) (sd : Nat) (h : TN T n σ) (hK : MKp T ks σ) (hsd : gL σ 200 65 = lN sd) (hlt : sd < 2147483648) (x : Int32) : MC G g l (d+4) mX6_days [tM, iv x] σ (fun r t => if okDays n x = true then (r = some (iv (nI (Nhr n + 24 * x.toNatClampNeg))) ∧ mS [63, 64, 65] [230, 242] σ t ∧ TN T (dayN T x.toNatClampNeg (n, sd)).1 t ∧ MKp T ((n :: ks).take 20) t ∧ gL t 200 65 = lN (dayN T x.toNatClampNeg (n, sd)).2 ∧ (dayN T x.toNatClampNeg (n, sd)).2 < 2147483648) else (r = some (iv (- nI 1)) ∧ mS [] [202] σ t ∧ RefInc 2 σ t)) := by
  have hh := h.2.1.1
  have h12 := h.1.1
  refine MC1 tX6_days [16, 30, 58] rfl okX6_days rfl rfl rfl rfl (fun P hP => ?_)
  have no : okDays n x = false → P 16 [some tM, some (iv x), none, none] [] σ := by
    intro e
    refine hP _ _ _ _ (And.intro (vin 2 6 rfl rfl) (And.intro (vin 2 6 rfl rfl) ?_))
    show if okDays n x = true then _ else _
    rw [if_neg (by rw [e]; decide)]
    exact ⟨rfl, mS.rf.a rfl, RefInc.mk 2 σ⟩
  refine hP _ _ _ _ ?_
  refine mcall (c_isIn G g l (d+2) σ _ _ _) (fun r s' h9 => ?_)
  obtain ⟨rfl, rfl⟩ := h9
  rw [btw_long (a := 1) (b := 30) (by decide) (by decide)]
  cases ha : btw x 1 30 with
  | false => exact And.intro (fun _ => no (by unfold okDays; rw [ha]; rfl)) (fun q => absurd rfl q)
  | true =>
    refine And.intro (fun q => absurd q (by decide)) (fun _ => ?_)
    obtain ⟨v, hv1, hv2, rfl⟩ := btw_of ha (by decide)
    have cv9 : (nI v).toNatClampNeg = v := clN (by omega)
    have g0 := h.2.2.2.1
    refine And.intro (vin 0 31 rfl rfl) (And.intro (fun q => ?_) (fun q => ?_))
    · have q : gI s' 230 0 + nI 24 * nI v ≤ nI 9999 := q
      rw [g0, ix1, nI_add, nI_leI (by omega) (by omega)] at q
      have ok : okDays n (nI v) = true := by unfold okDays; rw [ha, cv9, decide_eq_true q]; rfl
      refine mcall (c_keeps G g l (d+2) s' T n ks h.1 h.2.1 h.2.2.2 hK) (fun r s2 h9 => ?_)
      obtain ⟨rfl, S2, K2⟩ := h9
      have key : ∀ (m k : Nat) (p : Nws × Nat) (τ : AS) (x3 : Option AV), k + m = v → dayN T m p = dayN T v (n, sd) → Nhr p.1 = Nhr n + 24 * k → mS [63, 64, 65] [230, 242] s' τ → TN T p.1 τ → MKp T ((n :: ks).take 20) τ → gL τ 200 65 = lN p.2 → p.2 < 2147483648 → P 30 [some tM, some (iv (nI v)), some (iv (nI k)), x3] [] τ := by
        intro m
        induction m with
        | zero =>
          intro k p τ x3 hm hd hhr hS hTN hKp hsd hlt
          have hkv : k = v := by omega
          subst hkv
          refine hP _ _ _ _ (And.intro (fun _ => And.intro (vin 0 31 rfl rfl) ?_) (fun q => absurd (Int32.le_refl _) q))
          show if okDays n (nI k) = true then _ else _
          rw [if_pos ok, cv9, ← hd]
          refine ⟨?_, hS, hTN, hKp, hsd, hlt⟩
          rw [← hhr]
          exact congrArg _ (congrArg _ hTN.2.2.2.1)
        | succ m ih =>
          intro k p τ x3 hm hd hhr hS hTN hKp hsd hlt
          have go : ∀ (τ' : AS) (x3 : Option AV), mS [63, 64, 65] [230, 242] s' τ' → TN T (day1 T p).1 τ' → MKp T ((n :: ks).take 20) τ' → gL τ' 200 65 = lN (day1 T p).2 → (day1 T p).2 < 2147483648 → P 58 [some tM, some (iv (nI v)), some (iv (nI k)), x3] [] τ' := by
            intro τ' x3 a1 a2 a3 a4 a5
            refine hP _ _ _ _ ?_
            show P 30 [some tM, some (iv (nI v)), some (iv (nI k + nI 1)), x3] [] τ'
            rw [nI_add]
            exact ih (k+1) (day1 T p) τ' x3 (by omega) hd (by rw [day1_hr, hhr]; omega) a1 a2 a3 a4 a5
          have hN1 := hTN.2.1.day (p := p) h.1 (by omega)
          have e0 : gI τ 230 0 + nI 24 = nI (Nhr p.1 + 24) := by rw [hTN.2.2.2.1, nI_add]
          have S3 : mS [63, 64, 65] [230, 242] s' (sI τ 230 0 (gI τ 230 0 + nI 24)) := hS.a rfl
          have S3' : mS [] [230] τ (sI τ 230 0 (gI τ 230 0 + nI 24)) := mS.rf.a rfl
          have N3 : MNw T (setHr p.1 (Nhr p.1 + 24)) (sI τ 230 0 (gI τ 230 0 + nI 24)) := by
            have := hTN.2.2.2.hr h.1 (Nhr p.1 + 24)
            rw [← e0] at this
            exact this
          have T3 : TN T (setHr p.1 (Nhr p.1 + 24)) (sI τ 230 0 (gI τ 230 0 + nI 24)) := ⟨h.1, ⟨by show Nhr p.1 + 24 ≤ 9999; omega, hTN.2.1.2.1, hTN.2.1.2.2⟩, hTN.2.2.1.keep S3' rfl, N3⟩
          have K3 := hKp.keep S3' rfl rfl
          refine hP _ _ _ _ (And.intro (fun q => absurd q (nI_ge (by omega) (by omega))) (fun _ => And.intro (vin 0 31 rfl rfl) (And.intro (vin 0 31 rfl rfl) ?_)))
          refine mcall (c_streetMany G g l (d+2) (sI τ 230 0 (gI τ 230 0 + nI 24))) (fun r s3 h9 => ?_)
          obtain ⟨rfl, rfl⟩ := h9
          rw [T3.2.2.1.2.1]
          by_cases hz : Tns T = 0
          · refine And.intro (fun q => absurd (by rw [hz]) q) (fun _ => ?_)
            have ed : day1 T p = (setHr p.1 (Nhr p.1 + 24), p.2) := by unfold day1; rw [if_pos hz]
            rw [ed] at go
            exact go _ _ S3 T3 K3 hsd hlt
          · refine And.intro (fun _ => ?_) (fun q => absurd ((nI_eq (by omega) (by omega)).mp q) hz)
            refine mcall (c_streetMany G g l (d+2) (sI τ 230 0 (gI τ 230 0 + nI 24))) (fun r s3 h9 => ?_)
            obtain ⟨rfl, rfl⟩ := h9
            have hlt1 : drawN p.2 / 64 % Tns T < Tns T := Nat.mod_lt _ (by omega)
            refine mcall (c_drawOf G g l (d+2) (sI τ 230 0 (gI τ 230 0 + nI 24)) _ (Tns T) p.2 T3.2.2.1.2.1 (by omega) (by omega) hsd hlt) (fun r s4 h9 => ?_)
            obtain ⟨rfl, S4, L4⟩ := h9
            refine mcall (c_drawOf G g l (d+2) s4 _ 3 (drawN p.2) rfl (by omega) (by omega) L4 (drawN_lt _)) (fun r s5 h9 => ?_)
            obtain ⟨rfl, S5, L5⟩ := h9
            have S45 := S4.tr S5
            have hlt3 : drawN (drawN p.2) / 64 % 3 < 3 := Nat.mod_lt _ (by omega)
            refine mcall (c_shifts0 G g l (d+1) s5 T _ (T3.keep S45 rfl rfl) _ _ (drawN p.2 / 64 % Tns T) (drawN (drawN p.2) / 64 % 3) 1 rfl rfl hlt1 (by omega) (by omega)) (fun r s6 h9 => ?_)
            obtain ⟨rfl, S6, N6⟩ := h9
            have ed : day1 T p = (setSh (setHr p.1 (Nhr p.1 + 24)) (drawN p.2 / 64 % Tns T) ((Nsh p.1 (drawN p.2 / 64 % Tns T) + drawN (drawN p.2) / 64 % 3 + 100 * Trd T (drawN p.2 / 64 % Tns T) - 1) % Trd T (drawN p.2 / 64 % Tns T)), drawN (drawN p.2)) := by unfold day1; rw [if_neg hz]
            rw [ed] at go hN1
            refine go s6 _ ((S3.tr (S45.mono rfl rfl)).tr (S6.mono rfl rfl)) ⟨h.1, hN1, ((T3.keep S45 rfl rfl).2.2.1.keep S6 rfl), N6⟩ ((K3.keep S45 rfl rfl).keep S6 rfl rfl) ?_ (drawN_lt _)
            rw [S6.l 200 65 rfl rfl]
            exact L5
      refine key v 0 (n, sd) s2 none (by omega) rfl rfl (S2.mono rfl rfl) (h.keep S2 rfl rfl) K2 ?_ hlt
      rw [S2.l 200 65 rfl rfl]
      exact hsd
    · have q : ¬ gI s' 230 0 + nI 24 * nI v ≤ nI 9999 := q
      rw [g0, ix1, nI_add, nI_leI (by omega) (by omega)] at q
      exact no (by unfold okDays; rw [ha, cv9, decide_eq_false q]; rfl)
end MO
