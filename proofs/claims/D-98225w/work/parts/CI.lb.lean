/-! labels, in the component: soonest (58), done (59), setOut (field 18); far is 100000000 -/
def fN (v : Nat) : Nat := if v = NV then 100000000 else v
theorem fN_lt {v : Nat} (h : v ≤ NV) : fN v < 100000000 ↔ v ≠ NV := by
  unfold fN
  unfold NV at *
  split <;> omega
theorem fN_le {v : Nat} (h : v ≤ NV) : fN v ≤ 100000000 := by
  unfold fN
  unfold NV at *
  split <;> omega
theorem fN_of {v : Nat} (h : v ≠ NV) : fN v = v := by unfold fN; rw [if_neg h]
theorem fN_NV : fN NV = 100000000 := by unfold fN; rw [if_pos rfl]
theorem fN_lt2 {v w : Nat} (h : v ≤ NV) (h2 : w ≤ NV) : fN v < fN w ↔ v < w := by
  unfold fN
  unfold NV at *
  split <;> split <;> omega
/-- labels below NV are hours -/
def okA (T : Twn) (A : Nat → Nat) : Prop := ∀ p, p < Tnp T → A p = NV ∨ A p ≤ 900000
theorem okA.le {T : Twn} {A : Nat → Nat} (h : okA T A) {p : Nat} (hp : p < Tnp T) : A p ≤ NV := by
  have := h p hp
  unfold NV at *
  omega
def XLa (T : Twn) (A : Nat → Nat) (σ : AS) : Prop := ∀ p, p < Tnp T → gI σ 58 p = nI (fN (A p))
def XDo (T : Twn) (D : Nat → Bool) (σ : AS) : Prop := ∀ p, p < Tnp T → gI σ 59 p = bI (D p)
theorem XLa.xs {fs ids : List Nat} {T : Twn} {A : Nat → Nat} {σ s : AS} (h : XLa T A σ) (hS : xS fs ids σ s) (h1 : ids.contains 58 = false) : XLa T A s := fun p hp => by
  rw [hS.ia 58 h1 rfl]
  exact h p hp
theorem XDo.xs {fs ids : List Nat} {T : Twn} {D : Nat → Bool} {σ s : AS} (h : XDo T D σ) (hS : xS fs ids σ s) (h1 : ids.contains 59 = false) : XDo T D s := fun p hp => by
  rw [hS.ia 59 h1 rfl]
  exact h p hp
theorem nar_b1 (b : Bool) : vp_nar (tyOf 1) (bI b) = bI b := by cases b <;> rfl
section LB_
variable (G : CX) (g : GX) (l : Launch) (d : Nat) (σ : AS)
theorem x_other {Q : Nat → Prop} (T : Twn) (hT : TOK T) (s c : Nat) (hc : XST Q σ T s c) (x : Int32) (p : Nat) (hx : x = nI p) (hs : s < Tns T) (hp : p ≤ 1000) : MC G g l (d+1) mX8_other [rf c, iv x] σ (fun r t => r = some (iv (optI (otherF T s p))) ∧ t = σ) := by
  subst hx
  have h9 := hT.2.1 s hs
  have h12 := hT.1
  have k1 := hc.1
  have e1 := hc.2.1
  have e2 := hc.2.2.1
  refine MC0 tX8_other rfl okX8_other rfl rfl rfl rfl (fun P => ?_)
  refine grd (b := isOb (kd true σ c) _) (by rw [k1]; rfl) ?_
  refine And.intro (fun q => ?_) (fun q => ?_)
  · have q : ¬ nI p = gI σ c 1 := q
    rw [e1, nI_eq (by omega) (by omega)] at q
    refine grd (b := isOb (kd true σ c) _) (by rw [k1]; rfl) ?_
    refine And.intro (fun q2 => ⟨?_, rfl⟩) (fun q2 => ?_)
    · have q2 : ¬ nI p = gI σ c 2 := q2
      rw [e2, nI_eq (by omega) (by omega)] at q2
      unfold otherF
      rw [if_neg (fun e => q e.symm), if_neg (fun e => q2 e.symm)]
      rfl
    · have q2 : nI p = gI σ c 2 := q2
      rw [e2, nI_eq (by omega) (by omega)] at q2
      refine grd (b := isOb (kd true σ c) _) (by rw [k1]; rfl) ⟨?_, rfl⟩
      show some (iv (gI σ c 1)) = _
      unfold otherF
      rw [if_neg (fun e => q e.symm), if_pos q2.symm, e1]
      rfl
  · have q : nI p = gI σ c 1 := q
    rw [e1, nI_eq (by omega) (by omega)] at q
    refine grd (b := isOb (kd true σ c) _) (by rw [k1]; rfl) ⟨?_, rfl⟩
    show some (iv (gI σ c 2)) = _
    unfold otherF
    rw [if_pos q.symm, e2]
    rfl
theorem tkW_le (T : Twn) (n : Nws) (rs : List Ride) (wo s b h lp : Nat) (ht : 1 ≤ Ttk T s) (hlp : lp ≤ 900000) : tkW T n rs wo s b h lp = NV ∨ (h ≤ tkW T n rs wo s b h lp ∧ tkW T n rs wo s b h lp + Ttk T s < lp) := by
  unfold tkW
  split
  · exact Or.inl rfl
  · rcases tk1_spec T n rs s b h lp ht hlp with ⟨q, -⟩ | ⟨-, q1, q2, -⟩
    · exact Or.inl q
    · exact Or.inr ⟨q1, q2⟩
set_option maxRecDepth 10000 in
set_option maxHeartbeats 1000000 in
theorem x_taken (T : Twn) (n : Nws) (h : XN T n σ) (rs : List Ride) (hR : XRd rs σ) (wo so : Nat) (hG : XGo wo σ) (hO : gI σ 0 18 = nI so) (hso : so ≤ 800000) (x y z : Int32) (s b hr : Nat) (hx : x = nI s) (hy : y = nI b) (hz : z = nI hr) (hs : s < Tns T) (hb : b ≤ 1000) (h1 : hr ≤ 800000) :
    MC G g l (d+54) mX0_taken_2 [tX, iv x, iv y, iv z] σ (fun r t => r = some (iv (nI (fN (tkW T n rs wo s b hr (so + 401))))) ∧ xS [] [14] σ t) := by
  subst hx; subst hy; subst hz
  have hn := h.1.1
  have ht := (h.1.2.1 s hs).2.2.2.1
  refine MC1 tX0_taken_2 [2, 6] rfl okX0_taken_2 rfl rfl rfl rfl (fun P hP => ?_)
  have key : ∀ (m k : Nat) (t : AS), so + 401 - k ≤ m → k ≤ hr + (so + 401) → xS [] [14] σ t → tkW T n rs wo s b hr (so + 401) = tkW T n rs wo s b k (so + 401) → P 2 [some tX, some (iv (nI s)), some (iv (nI b)), some (iv (nI hr)), some (iv (nI k))] [] t := by
    intro m
    induction m with
    | zero =>
      intro k t hm hk2 hS he
      have hXN := h.xs hS rfl rfl
      refine hP _ _ _ _ (hP _ _ _ _ (at_street T rfl hXN.2.2.1 rfl rfl hs rfl (fun c hc => ?_)))
      refine grd (b := isOb (kd true t c) _) (by rw [hc.1]; rfl) ?_
      have e : gI t c 3 = nI (Ttk T s) := hc.2.2.2.1
      have eo : gI t 0 18 = nI so := by rw [hS.i 0 18 rfl rfl]; exact hO
      refine And.intro (fun _ => ⟨?_, hS⟩) (fun q => absurd (show gI t 0 18 + nI 400 < nI k + gI t c 3 from by rw [e, eo, nI_add, nI_add, nI_ltI (by omega) (by omega)]; omega) q)
      rw [he, tkW_step T n rs wo s b k (so + 401) ht.1, if_neg (by omega), fN_NV]
    | succ m ih =>
      intro k t hm hk2 hS he
      have hXN := h.xs hS rfl rfl
      refine hP _ _ _ _ (hP _ _ _ _ (at_street T rfl hXN.2.2.1 rfl rfl hs rfl (fun c hc => ?_)))
      refine grd (b := isOb (kd true t c) _) (by rw [hc.1]; rfl) ?_
      have e : gI t c 3 = nI (Ttk T s) := hc.2.2.2.1
      have eo : gI t 0 18 = nI so := by rw [hS.i 0 18 rfl rfl]; exact hO
      have hst := tkW_step T n rs wo s b k (so + 401) ht.1
      refine And.intro (fun q => ⟨?_, hS⟩) (fun q => ?_)
      · have q : gI t 0 18 + nI 400 < nI k + gI t c 3 := q
        rw [e, eo, nI_add, nI_add, nI_ltI (by omega) (by omega)] at q
        rw [he, hst, if_neg (by omega), fN_NV]
      · have q : ¬ gI t 0 18 + nI 400 < nI k + gI t c 3 := q
        rw [e, eo, nI_add, nI_add, nI_ltI (by omega) (by omega)] at q
        rw [if_pos (by omega)] at hst
        refine mcall (x_canPass G g l d t T n hXN rs (hR.xs hS rfl rfl) wo (hG.xs hS rfl rfl) _ _ _ s b k rfl rfl rfl hs hb (by omega)) (fun r' s1 h9 => ?_)
        obtain ⟨rfl, e9⟩ := h9
        have hS2 := hS.tr e9
        cases hf : (decide (s ≠ wo) && freeF T n rs s b k) with
        | true =>
          rw [hf, if_pos rfl] at hst
          refine And.intro (fun q => absurd q (by decide)) (fun _ => ⟨?_, hS2⟩)
          rw [he, hst, fN_of (by unfold NV; omega)]
        | false =>
          rw [hf, if_neg (by decide)] at hst
          refine And.intro (fun _ => ?_) (fun q => absurd rfl q)
          show P 2 [some tX, some (iv (nI s)), some (iv (nI b)), some (iv (nI hr)), some (iv (nI k + nI 1))] [] s1
          rw [nI_add]
          exact ih (k+1) s1 (by omega) (by omega) hS2 (he.trans hst)
  refine hP _ _ _ _ ?_
  exact key (so + 401) hr σ (by omega) (by omega) xS.rf rfl
def optN (o : Option Nat) : Int32 := optI o
def ltO (A : Nat → Nat) (j : Nat) (o : Option Nat) : Bool := match o with
  | none => true
  | some c => decide (A j < A c)
/-- the least label of what is not done, among the first j places -/
def bestF (A : Nat → Nat) (D : Nat → Bool) : Nat → Option Nat
  | 0 => none
  | j+1 => if D j = false ∧ A j ≠ NV ∧ ltO A j (bestF A D j) = true then some j else bestF A D j
theorem bestF_some {A : Nat → Nat} {D : Nat → Bool} : ∀ (j c : Nat), bestF A D j = some c → c < j ∧ D c = false ∧ A c ≠ NV ∧ ∀ q, q < j → D q = false → A q ≠ NV → A c ≤ A q
  | 0, c, h => by cases h
  | j+1, c, h => by
    unfold bestF at h
    split at h
    · rename_i hc
      cases h
      refine ⟨by omega, hc.1, hc.2.1, fun q hq hd ha => ?_⟩
      by_cases e : q = j
      · rw [e]; exact Nat.le_refl _
      · cases hb : bestF A D j with
        | none =>
          exfalso
          have key : ∀ (j : Nat), bestF A D j = none → ∀ q, q < j → D q = false → A q ≠ NV → False := by
            intro j
            induction j with
            | zero => intro _ q hq; omega
            | succ j ih =>
              intro hn q hq hd ha
              unfold bestF at hn
              split at hn
              · cases hn
              · rename_i hcc
                by_cases e : q = j
                · subst e
                  exact hcc ⟨hd, ha, by rw [hn]; rfl⟩
                · exact ih hn q (by omega) hd ha
          exact key j hb q (by omega) hd ha
        | some c2 =>
          have h2 := bestF_some j c2 hb
          have h3 := hc.2.2
          rw [hb] at h3
          have h4 := h2.2.2.2 q (by omega) hd ha
          have h3 : A j < A c2 := of_decide_eq_true h3
          omega
    · rename_i hc
      have h2 := bestF_some j c h
      refine ⟨by omega, h2.2.1, h2.2.2.1, fun q hq hd ha => ?_⟩
      by_cases e : q = j
      · subst e
        rcases Nat.lt_or_ge (A q) (A c) with h8 | h8
        · exact absurd ⟨hd, ha, by rw [h]; exact decide_eq_true h8⟩ hc
        · exact h8
      · exact h2.2.2.2 q (by omega) hd ha
theorem bestF_none {A : Nat → Nat} {D : Nat → Bool} : ∀ (j : Nat), bestF A D j = none → ∀ q, q < j → A q ≠ NV → D q = true
  | 0, _, q, hq, _ => by omega
  | j+1, hn, q, hq, ha => by
    unfold bestF at hn
    split at hn
    · cases hn
    · rename_i hcc
      by_cases e : q = j
      · subst e
        cases hd : D q with
        | true => rfl
        | false => exact absurd ⟨hd, ha, by rw [hn]; rfl⟩ hcc
      · exact bestF_none j hn q (by omega) ha
end LB_
