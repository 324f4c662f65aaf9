section MZ
variable (G : CX) (g : GX) (l : Launch) (d : Nat) (σ : AS)
/-- how many letters a name's number has; the k-th -/
def ndF : Nat → Nat → Nat
  | 0, _ => 0
  | f+1, v => if v = 0 then 0 else ndF f (v / 27) + 1
def letF (v k : Nat) : Nat := if k < ndF 7 v then v / 27 ^ (ndF 7 v - 1 - k) % 27 else 0
def NmOK (T : Twn) : Prop := ∀ kd k, Tnm T kd k < 387420489
def Tct (T : Twn) (kd : Nat) : Nat := if kd = 0 then Tnp T else if kd = 1 then Tns T else Tnw T
def okLet (T : Twn) (a b c : Int32) : Bool := btw a 0 2 && (inR b (Tct T a.toNatClampNeg) && btw c 0 5)
def q_letter (T : Twn) (a b c : Int32) : Int32 := if okLet T a b c = true then nI (letF (Tnm T a.toNatClampNeg b.toNatClampNeg) c.toNatClampNeg) else - nI 1
theorem ndF_le : ∀ (f v : Nat), ndF f v ≤ f
  | 0, _ => Nat.le_refl _
  | f+1, v => by
    unfold ndF
    split
    · omega
    · have := ndF_le f (v / 27); omega
set_option maxHeartbeats 2000000 in
theorem c_letter (T : Twn) (h : MTn T σ) (hT : TOK T) (hN : NmOK T) (a b c : Int32) : MC G g l (d+2) mX6_letter [tM, iv a, iv b, iv c] σ (fun r t => r = some (iv (q_letter T a b c)) ∧ t = σ) := by
  have h12 := hT.1
  refine MC1 tX6_letter [26, 43, 62] rfl okX6_letter rfl rfl rfl rfl (fun P hP => ?_)
  have no : okLet T a b c = false → P 26 [some tM, some (iv a), some (iv b), some (iv c), none, none, none, none, none] [] σ := by
    intro e
    refine hP _ _ _ _ ⟨?_, rfl⟩
    unfold q_letter
    rw [if_neg (by rw [e]; decide)]
  refine hP _ _ _ _ ?_
  refine mcall (c_isIn G g l d σ _ _ _) (fun r s1 h9 => ?_)
  obtain ⟨rfl, rfl⟩ := h9
  rw [btw_long (a := 0) (b := 2) (by decide) (by decide)]
  cases ha : btw a 0 2 with
  | false => exact And.intro (fun _ => no (by unfold okLet; rw [ha]; rfl)) (fun q => absurd rfl q)
  | true =>
    refine And.intro (fun q => absurd q (by decide)) (fun _ => ?_)
    obtain ⟨kd, -, hkd, rfl⟩ := btw_of ha (by decide)
    have ck : (nI kd).toNatClampNeg = kd := clN (by omega)
    have e3 : nI 3 + nI kd = nI (3 + kd) := nI_add _ _
    have hct : Tct T kd ≤ 12 := by unfold Tct; split <;> (try split) <;> omega
    have gm : gI s1 220 (nI 3 + nI kd).toNatClampNeg = nI (Tct T kd) := by
      rw [e3, clN (by omega)]
      unfold Tct
      rcases (by omega : kd = 0 ∨ kd = 1 ∨ kd = 2) with e | e | e
      · subst e; exact h.1
      · subst e; exact h.2.1
      · subst e; exact h.2.2.1
    refine And.intro (show vp_in (nI 3 + nI kd) 6 from by rw [e3]; exact vinN (by omega) (by decide)) ?_
    refine mcall (c_isIn G g l d s1 _ _ _) (fun r s2 h9 => ?_)
    obtain ⟨rfl, rfl⟩ := h9
    rw [inR_long (n := Tct T kd) (by omega) gm]
    cases hb : inR b (Tct T kd) with
    | false => exact And.intro (fun _ => no (by unfold okLet; rw [ha, ck, hb]; rfl)) (fun q => absurd rfl q)
    | true =>
      refine And.intro (fun q => absurd q (by decide)) (fun _ => ?_)
      refine mcall (c_isIn G g l d s2 _ _ _) (fun r s3 h9 => ?_)
      obtain ⟨rfl, rfl⟩ := h9
      rw [btw_long (a := 0) (b := 5) (by decide) (by decide)]
      cases hc : btw c 0 5 with
      | false => exact And.intro (fun q => absurd rfl q) (fun _ => no (by unfold okLet; rw [ha, ck, hb, hc]; rfl))
      | true =>
        refine And.intro (fun _ => ?_) (fun q => absurd q (by decide))
        obtain ⟨w, hw, rfl⟩ := inR_of hb (by omega)
        obtain ⟨k, -, hk, rfl⟩ := btw_of hc (by decide)
        have cw : (nI w).toNatClampNeg = w := clN (by omega)
        have cc : (nI k).toNatClampNeg = k := clN (by omega)
        have hv := hN kd w
        have e : q_letter T (nI kd) (nI w) (nI k) = nI (letF (Tnm T kd w) k) := by
          unfold q_letter
          rw [if_pos (by unfold okLet; rw [ha, ck, hb, hc]; rfl), ck, cw, cc]
        have ex : nI 36 + nI 12 * nI kd + nI w = nI (36 + 12 * kd + w) := by rw [pk_mul, nI_add, nI_add]
        have gv : gL s3 221 (nI 36 + nI 12 * nI kd + nI w).toNatClampNeg = lN (Tnm T kd w) := by
          rw [ex, clN (by omega)]
          unfold Tct at hw
          rcases (by omega : kd = 0 ∨ kd = 1 ∨ kd = 2) with e | e | e
          · subst e; exact h.2.2.2.2.2.2.1 w hw
          · subst e; exact h.2.2.2.2.2.2.2.1 w hw
          · subst e; exact h.2.2.2.2.2.2.2.2 w hw
        have hn7 := ndF_le 7 (Tnm T kd w)
        have key2 : ∀ (m i u : Nat), i = k + m → u = Tnm T kd w / 27 ^ (ndF 7 (Tnm T kd w) - 1 - i) → i < ndF 7 (Tnm T kd w) → P 62 [some tM, some (iv (nI kd)), some (iv (nI w)), some (iv (nI k)), some (jv (lN u)), none, some (iv (nI (ndF 7 (Tnm T kd w)))), some (iv (nI i)), none] [] s3 := by
          intro m
          induction m with
          | zero =>
            intro i u hi hu hlt
            have hi : i = k := hi
            subst hi
            have hul : u ≤ Tnm T kd w := by rw [hu]; exact Nat.div_le_self _ _
            refine hP _ _ _ _ (And.intro (fun _ => And.intro (by decide) ⟨?_, rfl⟩) (fun q => absurd (Int32.le_refl _) q))
            rw [e]
            unfold letF
            rw [if_pos hlt, ← hu]
            show some (Sum.inl (lN u - lN u / lN 27 * lN 27).toInt32) = _
            rw [pk_lRem (by omega) (by omega) (by omega), lN_i]
          | succ m ih =>
            intro i u hi hu hlt
            have hul : u ≤ Tnm T kd w := by rw [hu]; exact Nat.div_le_self _ _
            refine hP _ _ _ _ (And.intro (fun q => ?_) (fun _ => And.intro (by decide) ?_))
            · have q : nI i ≤ nI k := q
              rw [nI_leI (by omega) (by omega)] at q
              omega
            · show P 62 [some tM, some (iv (nI kd)), some (iv (nI w)), some (iv (nI k)), some (jv (lN u / lN 27)), none, some (iv (nI (ndF 7 (Tnm T kd w)))), some (iv (nI i - nI 1)), none] [] s3
              have ei : nI i - nI 1 = nI (i - 1) := nI_s1 _ _ (by omega)
              rw [ei, pk_lDiv (by omega) (by omega) (by omega)]
              refine ih (i - 1) (u / 27) (by omega) ?_ (by omega)
              rw [hu, Nat.div_div_eq_div_mul, ← Nat.pow_succ]
              congr 2
              omega
        have key1 : ∀ (f n q : Nat), n + f = 7 → q < 387420489 → q < 27 ^ f → n + ndF f q = ndF 7 (Tnm T kd w) → P 43 [some tM, some (iv (nI kd)), some (iv (nI w)), some (iv (nI k)), some (jv (lN (Tnm T kd w))), none, some (iv (nI n)), some (jv (lN q)), none] [] s3 := by
          have fin : ∀ (n q : Nat), q = 0 → n = ndF 7 (Tnm T kd w) → P 43 [some tM, some (iv (nI kd)), some (iv (nI w)), some (iv (nI k)), some (jv (lN (Tnm T kd w))), none, some (iv (nI n)), some (jv (lN q)), none] [] s3 := by
            intro n q hq hn
            subst hq hn
            refine hP _ _ _ _ (And.intro (fun _ => And.intro (fun q => ?_) (fun q => ⟨?_, rfl⟩)) (fun q => absurd ((lg_cmp_le _ _).mpr (Int64.le_refl _)) q))
            · have q : nI k < nI (ndF 7 (Tnm T kd w)) := q
              rw [nI_ltI (by omega) (by omega)] at q
              show P 62 [some tM, some (iv (nI kd)), some (iv (nI w)), some (iv (nI k)), some (jv (lN (Tnm T kd w))), none, some (iv (nI (ndF 7 (Tnm T kd w)))), some (iv (nI (ndF 7 (Tnm T kd w)) - nI 1)), none] [] s3
              rw [nI_s1 _ _ (by omega)]
              refine key2 (ndF 7 (Tnm T kd w) - 1 - k) _ _ (by omega) ?_ (by omega)
              rw [Nat.sub_self, Nat.pow_zero, Nat.div_one]
            · have q : ¬ nI k < nI (ndF 7 (Tnm T kd w)) := q
              rw [nI_ltI (by omega) (by omega)] at q
              rw [e]
              unfold letF
              rw [if_neg q]
          intro f
          induction f with
          | zero =>
            intro n q hn hq0 hq hd
            exact fin n q (by rw [Nat.pow_zero] at hq; omega) hd
          | succ f ih =>
            intro n q hn hq0 hq hd
            by_cases h0 : q = 0
            · refine fin n q h0 ?_
              rw [h0] at hd
              exact hd
            · have h27 : 27 ^ f ≤ 27 ^ 6 := Nat.pow_le_pow_right (by decide) (by omega)
              have hq2 : q < 27 * 27 ^ f := by rw [Nat.pow_succ] at hq; omega
              refine hP _ _ _ _ (And.intro (fun q1 => ?_) (fun _ => And.intro (by decide) ?_))
              · have q1 := (lg_cmp_le _ _).mp q1
                have q1 : lN q ≤ lN 0 := q1
                rw [lN_le (by omega) (by omega)] at q1
                omega
              · show P 43 [some tM, some (iv (nI kd)), some (iv (nI w)), some (iv (nI k)), some (jv (lN (Tnm T kd w))), none, some (iv (nI n + nI 1)), some (jv (lN q / lN 27)), none] [] s3
                rw [nI_add, pk_lDiv (by omega) (by omega) (by omega)]
                refine ih (n+1) (q / 27) (by omega) (by omega) (by omega) ?_
                have hd : n + (if q = 0 then 0 else ndF f (q / 27) + 1) = ndF 7 (Tnm T kd w) := hd
                rw [if_neg h0] at hd
                omega
        refine And.intro (show vp_in (nI 36 + nI 12 * nI kd + nI w) 72 from by rw [ex]; exact vinN (by omega) (by decide)) ?_
        show P 43 [some tM, some (iv (nI kd)), some (iv (nI w)), some (iv (nI k)), some (jv (gL s3 221 (nI 36 + nI 12 * nI kd + nI w).toNatClampNeg)), none, some (iv (nI 0)), some (jv (gL s3 221 (nI 36 + nI 12 * nI kd + nI w).toNatClampNeg)), none] [] s3
        rw [gv]
        exact key1 7 0 _ rfl hv (by omega) (by omega)
end MZ
