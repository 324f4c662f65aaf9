section MM
variable (G : CX) (g : GX) (l : Launch) (d : Nat) (σ : AS)
def MNwF (T : Twn) (n : Nws) (F : Nat → Int32) : Prop := F 0 = nI (Nhr n) ∧ (∀ s, s < Tns T → F (1 + s) = nI (Nsh n s)) ∧ (∀ w, w < Tnw T → F (13 + 3 * w) = nI (Nat_ n w) ∧ F (13 + 3 * w + 1) = nI (Nto n w) ∧ F (13 + 3 * w + 2) = nI (Nfr n w))
theorem MNwF.cong {T : Twn} {n : Nws} {F F' : Nat → Int32} (hT : TOK T) (h : MNwF T n F) (e : ∀ k, k < 31 → F' k = F k) : MNwF T n F' := by
  have := hT.1
  refine ⟨by rw [e 0 (by omega)]; exact h.1, fun s hs => by rw [e _ (by omega)]; exact h.2.1 s hs, fun w hw => ?_⟩
  rw [e _ (by omega), e _ (by omega), e _ (by omega)]
  exact h.2.2 w hw
/-- the ring of kept states: the newest first -/
def MKp (T : Twn) (ks : List Nws) (σ : AS) : Prop := ks.length ≤ 20 ∧ ∃ nw, nw < 20 ∧ gI σ 200 64 = nI nw ∧ gI σ 200 63 = nI ks.length ∧ ∀ j x, ks[j]? = some x → NOK T x ∧ MNwF T x (fun k => gI σ 242 (31 * ((nw + 20 - j) % 20) + k))
theorem MKp.keep {fs ids : List Nat} {T : Twn} {ks : List Nws} {σ s : AS} (h : MKp T ks σ) (hS : mS fs ids σ s) (h1 : ids.contains 242 = false) (h2 : (ids.contains 200 || (fs.contains 63 || fs.contains 64)) = false) : MKp T ks s := by
  simp only [Bool.or_eq_false_iff] at h2
  have e0 : ∀ k, gI s 242 k = gI σ 242 k := hS.ia 242 h1 rfl
  have e1 : gI s 200 63 = gI σ 200 63 := hS.i 200 63 h2.1 (by rw [h2.2.1]; rfl)
  have e2 : gI s 200 64 = gI σ 200 64 := hS.i 200 64 h2.1 (by rw [h2.2.2]; rfl)
  unfold MKp at h ⊢
  simp only [e0, e1, e2]
  exact h
theorem nI_inj31 {a b : Nat} (h : a % 20 ≠ b % 20) {k j : Nat} (hk : k < 31) (hj : j < 31) : 31 * (a % 20) + k ≠ 31 * (b % 20) + j := by omega
set_option maxHeartbeats 1000000 in
theorem c_keeps (T : Twn) (n : Nws) (ks : List Nws) (hT : TOK T) (hN : NOK T n) (hM : MNw T n σ) (hK : MKp T ks σ) : MC G g l (d+1) mX6_keeps [tM] σ (fun r t => r = none ∧ mS [63, 64] [242] σ t ∧ MKp T ((n :: ks).take 20) t) := by
  obtain ⟨k20, nw, n1, n2, n3, n4⟩ := hK
  have e64 : (gI σ 200 64 + nI 1) - (gI σ 200 64 + nI 1) / nI 20 * nI 20 = nI ((nw + 1) % 20) := by rw [n2, nI_add, pk_rem (by omega) (by omega) (by omega)]
  have S1 : mS [63, 64] [242] σ (sI σ 200 64 (nI ((nw + 1) % 20))) := mS.rf.f rfl
  refine MC1 tX6_keeps [10, 28] rfl okX6_keeps rfl rfl rfl rfl (fun P hP => ?_)
  have fin_ : ∀ τ : AS, mS [63, 64] [242] σ τ → gI τ 200 64 = nI ((nw + 1) % 20) → gI τ 200 63 = nI ks.length → (∀ k, k < 31 → gI τ 242 (31 * ((nw + 1) % 20) + k) = gI σ 230 k) → (∀ i, (i < 31 * ((nw + 1) % 20) ∨ 31 * ((nw + 1) % 20) + 31 ≤ i) → gI τ 242 i = gI σ 242 i) → ∀ x1, P 28 [some tM, x1] [] τ := by
    intro τ hS h64 h63 hin hout x1
    have old : ∀ j x, ks[j]? = some x → j + 1 < 20 → NOK T x ∧ MNwF T x (fun k => gI τ 242 (31 * (((nw + 1) % 20 + 20 - (j + 1)) % 20) + k)) := by
      intro j x hx hj
      obtain ⟨o1, o2⟩ := n4 j x hx
      refine ⟨o1, o2.cong hT (fun k hk => ?_)⟩
      have e9 : ((nw + 1) % 20 + 20 - (j + 1)) % 20 = (nw + 20 - j) % 20 := by omega
      show gI τ 242 (31 * (((nw + 1) % 20 + 20 - (j + 1)) % 20) + k) = _
      rw [e9]
      exact hout _ (by omega)
    have new : NOK T n ∧ MNwF T n (fun k => gI τ 242 (31 * (((nw + 1) % 20 + 20 - 0) % 20) + k)) := by
      refine ⟨hN, MNwF.cong (F := gI σ 230) hT hM (fun k hk => ?_)⟩
      show gI τ 242 (31 * (((nw + 1) % 20 + 20 - 0) % 20) + k) = _
      rw [show ((nw + 1) % 20 + 20 - 0) % 20 = (nw + 1) % 20 by omega]
      exact hin k hk
    have all : ∀ j x, ((n :: ks).take 20)[j]? = some x → NOK T x ∧ MNwF T x (fun k => gI τ 242 (31 * (((nw + 1) % 20 + 20 - j) % 20) + k)) := by
      intro j x hx
      rw [List.getElem?_take] at hx
      split at hx
      · cases j with
        | zero => simp at hx; subst hx; exact new
        | succ j => exact old j x (by simpa using hx) (by omega)
      · cases hx
    refine hP _ _ _ _ (And.intro (fun q => ?_) (fun q => ?_))
    · have q : nI 20 ≤ gI τ 200 63 := q
      rw [h63, nI_leI (by omega) (by omega)] at q
      refine ⟨rfl, hS, (by simp; omega), (nw + 1) % 20, by omega, h64, ?_, all⟩
      rw [h63]
      congr 1
      simp
      omega
    · have q : ¬ nI 20 ≤ gI τ 200 63 := q
      rw [h63, nI_leI (by omega) (by omega)] at q
      refine ⟨rfl, hS.f rfl, (by simp; omega), (nw + 1) % 20, by omega, h64, ?_, all⟩
      show gI τ 200 63 + nI 1 = _
      rw [h63, nI_add]
      congr 1
      simp
      omega
  have key : ∀ (m k : Nat) (τ : AS), k + m = 31 → mS [63, 64] [242] σ τ → gI τ 200 64 = nI ((nw + 1) % 20) → gI τ 200 63 = nI ks.length → (∀ j, j < k → gI τ 242 (31 * ((nw + 1) % 20) + j) = gI σ 230 j) → (∀ i, (i < 31 * ((nw + 1) % 20) ∨ 31 * ((nw + 1) % 20) + 31 ≤ i) → gI τ 242 i = gI σ 242 i) → P 10 [some tM, some (iv (nI k))] [] τ := by
    intro m
    induction m with
    | zero =>
      intro k τ hm hS h64 h63 hin hout
      have : k = 31 := by omega
      subst this
      exact hP _ _ _ _ (And.intro (fun _ => fin_ τ hS h64 h63 hin hout _) (fun q => absurd (Int32.le_refl _) q))
    | succ m ih =>
      intro k τ hm hS h64 h63 hin hout
      have ix : nI 31 * gI τ 200 64 + nI k = nI (31 * ((nw + 1) % 20) + k) := by rw [h64, ix1, nI_add]
      refine hP _ _ _ _ (And.intro (fun q => absurd q (nI_ge (by omega) (by omega))) (fun _ => And.intro (show vp_in (nI k) 31 from vinN (by omega) (by decide)) (And.intro ?_ ?_)))
      · show vp_in (nI 31 * gI τ 200 64 + nI k) 620
        rw [ix]; exact vinN (by omega) (by decide)
      · show P 10 [some tM, some (iv (nI k + nI 1))] [] (sI τ 242 (nI 31 * gI τ 200 64 + nI k).toNatClampNeg (gI τ 230 (nI k).toNatClampNeg))
        rw [ix, nI_add, clN (by omega), clN (by omega)]
        refine ih (k+1) _ (by omega) (hS.a rfl) h64 h63 (fun j hj => ?_) (fun i hi => ?_)
        · rw [gI_sI]
          by_cases e : j = k
          · rw [if_pos ⟨rfl, by rw [e]⟩, hS.ia 230 rfl rfl, e]
          · rw [if_neg (fun q => e (by omega))]; exact hin j (by omega)
        · rw [gI_sI, if_neg (fun q => by omega)]
          exact hout i hi
  refine hP _ _ _ _ ?_
  refine And.intro (by decide) ?_
  have := key 31 0 (sI σ 200 64 (nI ((nw + 1) % 20))) rfl S1 rfl n3 (fun j hj => absurd hj (Nat.not_lt_zero _)) (fun i _ => rfl)
  rw [← e64] at this
  exact this
/-- one more refused of kind k -/
def RefInc (k : Nat) (σ t : AS) : Prop := gI t 202 k = gI σ 202 k + nI 1 ∧ ∀ j, j ≠ k → gI t 202 j = gI σ 202 j
theorem RefInc.mk (k : Nat) (σ : AS) : RefInc k σ (sI σ 202 k (gI σ 202 k + nI 1)) := ⟨by rw [gI_sI, if_pos ⟨rfl, rfl⟩], fun j hj => by rw [gI_sI, if_neg (fun q => hj q.2)]⟩
set_option maxHeartbeats 1000000 in
theorem c_undo (T : Twn) (ks : List Nws) (hT : TOK T) (hK : MKp T ks σ) : MC G g l (d+1) mX6_undo [tM] σ (fun r t => match ks with
    | [] => r = some (iv (nI 0)) ∧ mS [] [202] σ t ∧ RefInc 3 σ t
    | x :: ks' => r = some (iv (nI 1)) ∧ mS [63, 64] [230] σ t ∧ MNw T x t ∧ MKp T ks' t) := by
  obtain ⟨k20, nw, n1, n2, n3, n4⟩ := hK
  refine MC1 tX6_undo [15] rfl okX6_undo rfl rfl rfl rfl (fun P hP => ?_)
  cases ks with
  | nil =>
    refine hP _ _ _ _ (And.intro (fun q => absurd n3 q) (fun _ => And.intro (vin 3 6 rfl rfl) (And.intro (vin 3 6 rfl rfl) ⟨nar0, rfl, mS.rf.a rfl, RefInc.mk 3 σ⟩)))
  | cons x ks =>
    have hx := n4 0 x rfl
    have hx2 : MNwF T x (fun k => gI σ 242 (31 * nw + k)) := by
      have := hx.2
      rw [show (nw + 20 - 0) % 20 = nw by omega] at this
      exact this
    have key : ∀ (m k : Nat) (τ : AS), k + m = 31 → mS [63, 64] [230] σ τ → gI τ 200 64 = nI nw → gI τ 200 63 = nI (ks.length + 1) → (∀ j, j < k → gI τ 230 j = gI σ 242 (31 * nw + j)) → P 15 [some tM, some (iv (nI k))] [] τ := by
      intro m
      induction m with
      | zero =>
        intro k τ hm hS h64 h63 hin
        have hk31 : k = 31 := by omega
        subst hk31
        have e9 : gI τ 200 64 + nI 20 - nI 1 - (gI τ 200 64 + nI 20 - nI 1) / nI 20 * nI 20 = nI ((nw + 19) % 20) := by
          rw [h64, nI_add, nI_s1 _ _ (by omega), show nw + 20 - 1 = nw + 19 by omega, pk_rem (by omega) (by omega) (by omega)]
        have e8 : gI τ 200 63 - nI 1 = nI ks.length := by rw [h63, nI_s1 _ _ (by omega)]; rfl
        refine hP _ _ _ _ (And.intro (fun _ => And.intro (by decide) ⟨nar1, rfl, (hS.f rfl).f rfl, ?_, ?_⟩) (fun q => absurd (Int32.le_refl _) q))
        · exact MNwF.cong (F := fun k => gI σ 242 (31 * nw + k)) hT hx2 (fun k hk => hin k hk)
        · refine ⟨by simp at k20; omega, (nw + 19) % 20, by omega, e9, e8, fun j y hy => ?_⟩
          obtain ⟨o1, o2⟩ := n4 (j+1) y (by simpa using hy)
          have hj : j < ks.length := (List.getElem?_eq_some_iff.mp hy).1
          simp at k20
          refine ⟨o1, o2.cong hT (fun k hk => ?_)⟩
          show gI τ 242 (31 * (((nw + 19) % 20 + 20 - j) % 20) + k) = _
          rw [hS.ia 242 rfl rfl, show ((nw + 19) % 20 + 20 - j) % 20 = (nw + 20 - (j + 1)) % 20 by omega]
      | succ m ih =>
        intro k τ hm hS h64 h63 hin
        have ix : nI 31 * gI τ 200 64 + nI k = nI (31 * nw + k) := by rw [h64, ix1, nI_add]
        refine hP _ _ _ _ (And.intro (fun q => absurd q (nI_ge (by omega) (by omega))) (fun _ => And.intro ?_ (And.intro (show vp_in (nI k) 31 from vinN (by omega) (by decide)) ?_)))
        · show vp_in (nI 31 * gI τ 200 64 + nI k) 620
          rw [ix]; exact vinN (by omega) (by decide)
        · show P 15 [some tM, some (iv (nI k + nI 1))] [] (sI τ 230 (nI k).toNatClampNeg (gI τ 242 (nI 31 * gI τ 200 64 + nI k).toNatClampNeg))
          rw [ix, nI_add, clN (by omega), clN (by omega)]
          refine ih (k+1) _ (by omega) (hS.a rfl) h64 h63 (fun j hj => ?_)
          rw [gI_sI]
          by_cases e : j = k
          · rw [if_pos ⟨rfl, e⟩, hS.ia 242 rfl rfl, e]
          · rw [if_neg (fun q => e q.2)]; exact hin j (by omega)
    refine hP _ _ _ _ (And.intro (fun _ => ?_) (fun q => ?_))
    · exact key 31 0 σ rfl mS.rf n2 n3 (fun j hj => absurd hj (Nat.not_lt_zero _))
    · have q : gI σ 200 63 = nI 0 := q
      simp at k20
      rw [n3, nI_eq (by simp; omega) (by omega)] at q
      simp at q
end MM
