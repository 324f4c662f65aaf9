/-! sums in codes, and what they tell -/
def stepR (ev : Nat → Nat) (c : Nat) (st : List Int) : List Int :=
  if 1000 ≤ c then ((c - 1000 : Nat) : Int) :: st else if 7 ≤ c ∧ c ≤ 10 then (ev (c - 7) : Int) :: st else match st with
    | b :: a :: r => opZ c a b :: r
    | _ => []
def evalR (ev : Nat → Nat) : List Nat → List Int → List Int
  | [], st => st
  | c :: cs, st => evalR ev cs (stepR ev c st)
def wfR : List Nat → Nat → Prop
  | [], n => n = 1
  | c :: cs, n => (1 ≤ c ∧ c ≤ 10999) ∧ (if 1000 ≤ c ∨ (7 ≤ c ∧ c ≤ 10) then wfR cs (n+1) else c ≤ 6 ∧ 2 ≤ n ∧ wfR cs (n-1))
/-- the pile holds the stack -/
def pileOK (id : Nat) (τ : AS) (st : List Int) : Prop := ∀ (i : Nat) (v : Int), st.reverse[i]? = some v → gL τ id i = zL v ∧ mid v
theorem pile_push {id : Nat} {τ s : AS} {st : List Int} {v : Int} (h : pileOK id τ st) (h1 : gL s id st.length = zL v) (hv : mid v) (h2 : ∀ k, k ≠ st.length → gL s id k = gL τ id k) : pileOK id s (v :: st) := by
  intro i w hw
  rw [List.reverse_cons] at hw
  by_cases hi : i < st.length
  · rw [List.getElem?_append_left (by simpa using hi)] at hw
    rw [h2 i (by omega)]
    exact h i w hw
  · rw [List.getElem?_append_right (by simpa using Nat.le_of_not_lt hi)] at hw
    have hz : i - st.reverse.length < 1 := (List.getElem?_eq_some_iff.mp hw).1
    simp at hz
    have : i = st.length := by omega
    subst this
    simp at hw
    subst hw
    exact ⟨h1, hv⟩
theorem pile_top {id : Nat} {τ : AS} {st : List Int} {a b : Int} (h : pileOK id τ (b :: a :: st)) : gL τ id st.length = zL a ∧ mid a ∧ gL τ id (st.length + 1) = zL b ∧ mid b := by
  have h1 := h st.length a (by simp)
  have h2 := h (st.length + 1) b (by simp)
  exact ⟨h1.1, h1.2, h2.1, h2.2⟩
theorem pile_op {id : Nat} {τ s : AS} {st : List Int} {a b v : Int} (h : pileOK id τ (b :: a :: st)) (h1 : gL s id st.length = zL v) (hv : mid v) (h2 : ∀ k, k ≠ st.length → gL s id k = gL τ id k) : pileOK id s (v :: st) := by
  have h3 : pileOK id τ st := by
    intro i w hw
    refine h i w ?_
    have hi : i < st.reverse.length := (List.getElem?_eq_some_iff.mp hw).1
    rw [List.reverse_cons, List.reverse_cons, List.append_assoc, List.getElem?_append_left hi]
    exact hw
  exact pile_push h3 h1 hv h2
section MD
variable (G : CX) (g : GX) (l : Launch) (d : Nat) (σ : AS)
set_option maxHeartbeats 1000000 in
theorem c_told (cs : List Nat) (f : Nat) (x y : Int32) (ev : Nat → Nat) (hx : x = nI f) (hy : y = nI (f + cs.length)) (hf : f + cs.length ≤ 1600) (hc : ∀ j c, cs[j]? = some c → gI σ 224 (1600 + f + j) = nI c) (he : ∀ i, i < 4 → gI σ 229 i = nI (ev i) ∧ ev i ≤ 1000000) (hw : wfR cs 0) :
    MC G g l (d+3) mX6_told [tM, iv x, iv y] σ (fun r s => (∃ v, (evalR ev cs [])[0]? = some v ∧ mid v ∧ r = some (jv (zL v))) ∧ mS [43] [228] σ s) := by
  subst hx; subst hy
  refine MC1 tX6_told [5] rfl okX6_told rfl rfl rfl rfl (fun P hP => ?_)
  have key : ∀ (cs' : List Nat) (k : Nat) (st : List Int) (x4 : Option AV) (τ : AS), cs' = cs.drop k → k ≤ cs.length → mS [43] [228] σ τ → gI τ 200 43 = nI st.length → st.length ≤ k → pileOK 228 τ st → wfR cs' st.length → evalR ev cs' st = evalR ev cs [] →
      P 5 [some tM, some (iv (nI f)), some (iv (nI (f + cs.length))), some (iv (nI (f + k))), x4] [] τ := by
    intro cs'
    induction cs' with
    | nil =>
      intro k st x4 τ hcs hk hS hp hle hpl hwf hev
      have hk2 : k = cs.length := by
        have := congrArg List.length hcs
        simp at this
        omega
      refine hP _ _ _ _ (And.intro (fun _ => And.intro (vin 0 1700 rfl rfl) ?_) (fun h => absurd (nI_le (by omega) (by omega)) h))
      have hwf : st.length = 1 := hwf
      match st, hwf with
      | [v], _ =>
        have h1 := hpl 0 v rfl
        refine ⟨⟨v, by rw [← hev]; rfl, h1.2, ?_⟩, hS⟩
        show some (Sum.inr (Sum.inl (gL τ 228 0))) = _
        rw [h1.1]
    | cons c cs' ih =>
      intro k st x4 τ hcs hk hS hp hle hpl hwf hev
      have hk2 : k < cs.length := by
        have := congrArg List.length hcs
        simp at this
        omega
      have hck : cs[k]? = some c := by
        have := congrArg (fun l => l[0]?) hcs
        simp at this
        exact this.symm
      have hcs' : cs' = cs.drop (k+1) := by
        have := congrArg List.tail hcs
        simpa using this
      have hcv : gI τ 224 (1600 + (f + k)) = nI c := by
        rw [hS.ia 224 rfl rfl, ← Nat.add_assoc]
        exact hc k c hck
      obtain ⟨⟨hc1, hc2⟩, hwf⟩ := hwf
      have hix : (nI 1600 + nI (f + k)).toNatClampNeg = 1600 + (f + k) := by rw [nI_add, clN (by omega)]
      have next : ∀ (st' : List Int) (s : AS), mS [43] [228] τ s → gI s 200 43 = nI st'.length → st'.length ≤ k + 1 → pileOK 228 s st' → wfR cs' st'.length → evalR ev cs' st' = evalR ev cs [] → P 5 [some tM, some (iv (nI f)), some (iv (nI (f + cs.length))), some (iv (nI (f + k) + nI 1)), some (iv (gI τ 224 (nI 1600 + nI (f + k)).toNatClampNeg))] [] s := by
        intro st' s h1 h2 h3 h4 h5 h6
        rw [nI_add]
        exact ih (k+1) st' _ s hcs' (by omega) (hS.tr h1) h2 h3 h4 h5 h6
      refine hP _ _ _ _ (And.intro (fun h => absurd h (nI_ge (by omega) (by omega))) (fun _ => And.intro ?_ ?_))
      · show vp_in (nI 1600 + nI (f + k)) 3200
        rw [nI_add]; exact vinN (by omega) (by decide)
      · have hv : gI τ 224 (nI 1600 + nI (f + k)).toNatClampNeg = nI c := by rw [hix, hcv]
        refine And.intro (fun h => ?_) (fun h => ?_)
        · have h : gI τ 224 (nI 1600 + nI (f + k)).toNatClampNeg < nI 1000 := h
          rw [hv, nI_ltI (by omega) (by omega)] at h
          refine mcall (c_isIn G g l (d+1) τ _ _ _) (fun r s' h2 => ?_)
          obtain ⟨rfl, rfl⟩ := h2
          have hz : (gI s' 224 (nI 1600 + nI (f + k)).toNatClampNeg).toInt64 = lN c := by rw [hv, nI_l (by omega)]
          by_cases h7 : 7 ≤ c ∧ c ≤ 10
          · have hd : (decide (lN 7 ≤ (gI s' 224 (nI 1600 + nI (f + k)).toNatClampNeg).toInt64 ∧ (gI s' 224 (nI 1600 + nI (f + k)).toNatClampNeg).toInt64 ≤ lN 10)) = true := by
              rw [decide_eq_true_eq, hz, lN_le (by omega) (by omega), lN_le (by omega) (by omega)]
              exact h7
            rw [if_pos (Or.inr h7)] at hwf
            have hev2 : stepR ev c st = (ev (c - 7) : Int) :: st := by unfold stepR; rw [if_neg (by omega), if_pos h7]
            have hix2 : gI s' 224 (nI 1600 + nI (f + k)).toNatClampNeg - nI 7 = nI (c - 7) := by rw [hv, nI_s1 _ _ h7.1]
            have he2 := he (c - 7) (by omega)
            refine And.intro (fun h8 => ?_) (fun h8 => And.intro ?_ ?_)
            · exfalso
              have h8 : bI _ = nI 0 := h8
              rw [show bI (decide (lN 7 ≤ (gI s' 224 (nI 1600 + nI (f + k)).toNatClampNeg).toInt64 ∧ (gI s' 224 (nI 1600 + nI (f + k)).toNatClampNeg).toInt64 ≤ lN 10)) = nI 1 by rw [hd]; rfl] at h8
              exact absurd h8 (by decide)
            · show vp_in (gI s' 224 (nI 1600 + nI (f + k)).toNatClampNeg - nI 7) 4
              rw [hix2]; exact vinN (by omega) (by decide)
            · refine mcall (c_puts G g l (d+1) s' _ st.length hp (by omega)) (fun r s2 h9 => ?_)
              obtain ⟨rfl, q1, q2, q3, q4⟩ := h9
              refine next ((ev (c - 7) : Int) :: st) s2 q4 q1 (by simp; omega) (pile_push hpl ?_ ⟨by omega, by omega⟩ q3) hwf (by rw [← hev, ← hev2]; rfl)
              rw [q2]
              show (gI s' 229 (gI s' 224 (nI 1600 + nI (f + k)).toNatClampNeg - nI 7).toNatClampNeg).toInt64 = _
              rw [hix2, clN (by omega), hS.ia 229 rfl rfl, he2.1, nI_zL (by omega)]
          · have hd : (decide (lN 7 ≤ (gI s' 224 (nI 1600 + nI (f + k)).toNatClampNeg).toInt64 ∧ (gI s' 224 (nI 1600 + nI (f + k)).toNatClampNeg).toInt64 ≤ lN 10)) = false := by
              rw [decide_eq_false_iff_not, hz, lN_le (by omega) (by omega), lN_le (by omega) (by omega)]
              exact h7
            rw [if_neg (by omega)] at hwf
            obtain ⟨w1, w2, w3⟩ := hwf
            match st, w2, hp, hle, hpl, w3, hev with
            | b :: a :: st, w2, hp, hle, hpl, w3, hev =>
              have hev2 : stepR ev c (b :: a :: st) = opZ c a b :: st := by unfold stepR; rw [if_neg (by omega), if_neg h7]
              obtain ⟨p1, p2, p3, p4⟩ := pile_top hpl
              simp only [List.length_cons] at hle
              refine And.intro (fun h8 => ?_) (fun h8 => ?_)
              · refine mcall (c_joins G g l d s' _ c st.length a b hv p2 p4 ⟨hc1, w1⟩ hp (by omega) p1 p3) (fun r s2 h9 => ?_)
                obtain ⟨rfl, q1, q2, q3, q4⟩ := h9
                exact next (opZ c a b :: st) s2 q4 q1 (by simp; omega) (pile_op hpl q2 (opZ_mid p2 p4) q3) w3 (by rw [← hev, ← hev2]; rfl)
              · exfalso
                have h8 : ¬ bI _ = nI 0 := h8
                rw [show bI (decide (lN 7 ≤ (gI s' 224 (nI 1600 + nI (f + k)).toNatClampNeg).toInt64 ∧ (gI s' 224 (nI 1600 + nI (f + k)).toNatClampNeg).toInt64 ≤ lN 10)) = nI 0 by rw [hd]; rfl] at h8
                exact h8 rfl
        · have h : ¬ gI τ 224 (nI 1600 + nI (f + k)).toNatClampNeg < nI 1000 := h
          rw [hv, nI_ltI (by omega) (by omega)] at h
          rw [if_pos (Or.inl (by omega))] at hwf
          have hev2 : stepR ev c st = ((c - 1000 : Nat) : Int) :: st := by unfold stepR; rw [if_pos (by omega)]
          refine mcall (c_puts G g l (d+1) τ _ st.length hp (by omega)) (fun r s2 h9 => ?_)
          obtain ⟨rfl, q1, q2, q3, q4⟩ := h9
          refine next (((c - 1000 : Nat) : Int) :: st) s2 q4 q1 (by simp; omega) (pile_push hpl ?_ ⟨by omega, by omega⟩ q3) hwf (by rw [← hev, ← hev2]; rfl)
          rw [q2]
          show (gI τ 224 (nI 1600 + nI (f + k)).toNatClampNeg - nI 1000).toInt64 = _
          rw [hv, nI_s1 _ _ (by omega), nI_zL (by omega)]
  refine hP _ _ _ _ ?_
  exact key cs 0 [] none (sI σ 200 43 (nI 0)) rfl (Nat.zero_le _) (mS.rf.f rfl) rfl (Nat.le_refl _) (fun i v h => by simp at h) hw rfl
end MD
