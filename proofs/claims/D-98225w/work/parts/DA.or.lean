/-! bits of an int -/
theorem hasB_bit {x : Int32} {s : Nat} (hs : s < 31) : hasB x s = x.toBitVec.getLsbD s := by
  unfold hasB
  have e1 : x >>> (nI s &&& 31) &&& nI 1 = nI ((x >>> (nI s &&& 31)).toBitVec.toNat % 2 ^ 1) := pk_and _ 1 rfl
  have hsm : ((nI s &&& 31).toBitVec.smod 32).toNat = s := by
    have : ∀ s : Fin 31, ((nI s.val &&& 31).toBitVec.smod 32).toNat = s.val := by decide +kernel
    exact this ⟨s, hs⟩
  have e2 : (x >>> (nI s &&& 31)).toBitVec = x.toBitVec.sshiftRight s := by
    show x.toBitVec.sshiftRight' ((nI s &&& 31).toBitVec.smod 32) = _
    show x.toBitVec.sshiftRight ((nI s &&& 31).toBitVec.smod 32).toNat = _
    rw [hsm]
  rw [e1, e2]
  have e3 : (x.toBitVec.sshiftRight s).getLsbD 0 = x.toBitVec.getLsbD s := by
    rw [BitVec.getLsbD_sshiftRight]
    simp
    omega
  have e4 : (x.toBitVec.sshiftRight s).getLsbD 0 = decide ((x.toBitVec.sshiftRight s).toNat % 2 = 1) := by
    rw [BitVec.getLsbD, Nat.testBit_zero]
  rw [← e3, e4]
  apply decide_eq_decide.mpr
  rw [Nat.pow_one]
  have := Nat.mod_lt (x.toBitVec.sshiftRight s).toNat (show 2 > 0 by omega)
  rw [nI_eq (by omega) (by omega)]
theorem hasB_or (x y : Int32) {s : Nat} (hs : s < 31) : hasB (x ||| y) s = (hasB x s || hasB y s) := by
  rw [hasB_bit hs, hasB_bit hs, hasB_bit hs, Int32.toBitVec_or, BitVec.getLsbD_or]
theorem hasB_one {w s : Nat} (hw : w ≤ 12) (hs : s < 31) : hasB (nI 1 <<< (nI w &&& 31)) s = decide (s = w) := by
  rw [shl1 hw, hasB_bit hs]
  show (BitVec.ofNat 32 (2 ^ w)).getLsbD s = _
  rw [BitVec.getLsbD_ofNat, Nat.testBit_two_pow, decide_eq_true (by omega : s < 32)]
  simp
  exact ⟨fun h => h.symm, fun h => h.symm⟩
theorem hasB_nil {s : Nat} (hs : s < 31) : hasB (nI 0) s = false := by
  rw [hasB_bit hs]
  show (BitVec.ofNat 32 0).getLsbD s = false
  simp
/-! all orders that go on from a beginning -/
def cmpF (n : Nat) : Nat → List Nat → List (List Nat)
  | 0, pre => [pre]
  | m+1, pre => (List.range n).flatMap (fun w => if w ∈ pre then [] else cmpF n m (pre ++ [w]))
theorem cmpF_perms {k : Nat} (h1 : 1 ≤ k) (h2 : k ≤ 4) : cmpF k k [] = permsF k := by
  have : k = 1 ∨ k = 2 ∨ k = 3 ∨ k = 4 := by omega
  rcases this with rfl | rfl | rfl | rfl <;> decide +kernel
def okO (k : Nat) (os : List Nat) : Bool := decide (os.length = k) && (List.range k).all (fun w => decide (w ∈ os)) && os.all (fun w => decide (w < k))
theorem cmpF_ok {k : Nat} (h1 : 1 ≤ k) (h2 : k ≤ 4) : ∀ os ∈ cmpF k k [], okO k os = true := by
  have : k = 1 ∨ k = 2 ∨ k = 3 ∨ k = 4 := by omega
  rcases this with rfl | rfl | rfl | rfl <;> decide +kernel
def XBe (k : Nat) (b : Best) (σ : AS) : Prop := match b with
  | none => gI σ 0 24 = - nI 1
  | some x => gI σ 0 24 = nI x.1 ∧ gI σ 0 25 = nI x.2.1 ∧ x.1 ≤ 20000 ∧ x.2.1 ≤ 200000 ∧ ∀ i, i < k → gI σ 65 i = nI (x.2.2.1.getD i 0) ∧ gI σ 66 i = nI (x.2.2.2 i)
theorem XBe.xs {fs ids : List Nat} {k : Nat} {b : Best} {σ s : AS} (h : XBe k b σ) (hS : xS fs ids σ s) (h1 : (ids.contains 65 || ids.contains 66 || ids.contains 0) = false) (h2 : (fs.contains 24 || fs.contains 25) = false) : XBe k b s := by
  simp only [Bool.or_eq_false_iff] at h1 h2
  have e0 : ∀ k, gI s 65 k = gI σ 65 k := hS.ia 65 h1.1.1 rfl
  have e1 : ∀ k, gI s 66 k = gI σ 66 k := hS.ia 66 h1.1.2 rfl
  have e2 : gI s 0 24 = gI σ 0 24 := hS.i 0 24 h1.2 (by rw [h2.1]; rfl)
  have e3 : gI s 0 25 = gI σ 0 25 := hS.i 0 25 h1.2 (by rw [h2.2]; rfl)
  unfold XBe at h ⊢
  simp only [e0, e1, e2, e3]
  exact h
def oIds : List Nat := rIds ++ [63, 65, 66]
def oFs : List Nat := [11, 17, 18, 24, 25]
theorem XN.xso {T : Twn} {n : Nws} {σ s : AS} (h : XN T n σ) (hS : xS oFs oIds σ s) : XN T n s := h.xs hS (by decide) (by decide)
theorem XGo.xso {wo : Nat} {σ s : AS} (h : XGo wo σ) (hS : xS oFs oIds σ s) : XGo wo s := h.xs hS (by decide) (by decide)
theorem XRd.nil {σ : AS} (h : gI σ 0 11 = nI 0) : XRd [] σ := ⟨h, by simp, fun k r hr => by simp at hr⟩
section OR_
variable (G : CX) (g : GX) (l : Launch) (d : Nat)
set_option maxHeartbeats 2000000 in
theorem x_orders (T : Twn) (n : Nws) (N : Nat) (hN1 : 1 ≤ N) (hN4 : N ≤ 4) (hNw : N ≤ Tnw T) : ∀ (m : Nat) (σ : AS) (pre : List Nat) (b : Best) (x y z : Int32), XN T n σ → XRd [] σ → XGo 99 σ → pre.length + m = N → (∀ w ∈ pre, w < N) → x = nI pre.length → y = nI N → (∀ w, w < N → hasB z w = decide (w ∈ pre)) → XOr pre σ → XBe N b σ → (∀ os ∈ cmpF N m pre, okO N os = true) →
    MC G g l (d+m+59) mX0_orders [tX, iv x, iv y, iv z] σ (fun r t => r = none ∧ xS oFs oIds σ t ∧ gI t 0 11 = nI 0 ∧ XBe N ((cmpF N m pre).foldl (rowStep T n N) b) t ∧ ∀ i, i < pre.length → gI t 63 i = gI σ 63 i) := by
  intro m
  induction m with
  | zero =>
    intro σ pre b x y z h hR hG hm hlt hx hy hz hO hB hok
    subst hx; subst hy
    have h12 := h.1.1
    have epl : pre.length = N := by omega
    have hokp := hok pre (by simp [cmpF])
    unfold okO at hokp
    rw [Bool.and_eq_true, Bool.and_eq_true, decide_eq_true_eq, List.all_eq_true] at hokp
    have hall : ∀ w, w < N → w ∈ pre := fun w hw => of_decide_eq_true (hokp.1.2 w (List.mem_range.mpr hw))
    refine MC1 tX0_orders [14, 33, 49, 50, 58] rfl okX0_orders rfl rfl rfl rfl (fun P hP => hP _ _ _ _ ?_)
    refine And.intro (fun q => absurd (show nI pre.length = nI N by rw [epl]) q) (fun _ => ?_)
    have hfold : (cmpF N 0 pre).foldl (rowStep T n N) b = rowStep T n N b pre := rfl
    refine mcall (x_walksAll G g l d σ T n h hR hG _ pre (by rw [epl]) (by omega) (fun w hw => ⟨by have := hlt w hw; omega, by have := hlt w hw; omega⟩) hO) (fun r s1 h9 => ?_)
    obtain ⟨rfl, S1, z1, A1⟩ := h9
    have S1' : xS oFs oIds σ s1 := S1.mono (by decide) (by decide)
    have B1 : XBe N b s1 := hB.xs S1 (by decide) (by decide)
    have O1 : XOr pre s1 := fun i x hx => by rw [S1.ia 63 (by decide) rfl]; exact hO i x hx
    have pre63 : ∀ i, i < pre.length → gI s1 63 i = gI σ 63 i := fun i _ => S1.ia 63 (by decide) rfl i
    cases hA : allGoF T n pre [] (fun _ => 0) with
    | none =>
      refine And.intro (fun q => absurd rfl q) (fun _ => ⟨rfl, S1', z1, ?_, pre63⟩)
      rw [hfold]
      unfold rowStep
      rw [hA]
      exact B1
    | some c =>
      refine And.intro (fun _ => ?_) (fun q => absurd (show bI true = nI 0 from q) (by decide))
      have hstep : rowStep T n N b pre = weigh1 N b pre c := by unfold rowStep; rw [hA]
      have hc : ∀ w, w < N → gI s1 64 w = nI (c w) ∧ c w ≤ 10400 := fun w hw => A1 c hA w (hall w hw)
      have hle : ∀ m, m ≤ N → lastF c m ≤ 10400 ∧ sumF c m ≤ 10400 * m := lastF_le (fun w hw => (hc w hw).2)
      have hlk := hle N (Nat.le_refl _)
      have at58 : ∀ (m i : Nat) (τ : AS), i + m = N → xS oFs [65, 66] s1 τ → gI τ 0 11 = nI 0 → gI τ 0 24 = nI (lastF c N) → gI τ 0 25 = nI (sumF c N) → (∀ j, j < i → gI τ 65 j = nI (pre.getD j 0) ∧ gI τ 66 j = nI (c j)) → weigh1 N b pre c = some (lastF c N, sumF c N, pre, c) → P 58 [some tX, some (iv (nI pre.length)), some (iv (nI N)), some (iv z), some (iv (nI (lastF c N))), some (iv (nI (sumF c N))), some (iv (nI i))] [] τ := by
        intro m
        induction m with
        | zero =>
          intro i τ hi hS e11 e24 e25 hall2 hw
          refine hP _ _ _ _ (And.intro (fun _ => ⟨rfl, S1'.tr (hS.mono (by decide) (by decide)), e11, ?_, fun i hi => (hS.ia 63 rfl rfl i).trans (pre63 i hi)⟩) (fun q => absurd (nI_le (by omega) (by omega)) q))
          rw [hfold, hstep, hw]
          exact ⟨e24, e25, by show lastF c N ≤ 20000; omega, by show sumF c N ≤ 200000; omega, fun j hj => hall2 j (by omega)⟩
        | succ m ih =>
          intro i τ hi hS e11 e24 e25 hall2 hw
          have ci : (nI i).toNatClampNeg = i := clN (by omega)
          have v4 : vp_in (nI i) 4 := vinN (by omega) (by decide)
          refine hP _ _ _ _ (And.intro (fun q => absurd q (nI_ge (by omega) (by omega))) (fun _ => And.intro v4 (And.intro v4 (And.intro v4 (And.intro v4 ?_)))))
          show P 58 [some tX, some (iv (nI pre.length)), some (iv (nI N)), some (iv z), some (iv (nI (lastF c N))), some (iv (nI (sumF c N))), some (iv (nI i + nI 1))] [] (sI (sI τ 65 (nI i).toNatClampNeg (gI τ 63 (nI i).toNatClampNeg)) 66 (nI i).toNatClampNeg (gI τ 64 (nI i).toNatClampNeg))
          rw [nI_add, ci]
          have ho : gI τ 63 i = nI (pre.getD i 0) := by
            rw [hS.ia 63 rfl rfl]
            exact O1 i _ (by rw [List.getElem?_eq_getElem (by omega)]; simp [List.getD, List.getElem?_eq_getElem (show i < pre.length by omega)])
          have hcc : gI τ 64 i = nI (c i) := by rw [hS.ia 64 rfl rfl]; exact (hc i (by omega)).1
          refine ih (i+1) _ (by omega) ((hS.a rfl).a rfl) ?_ ?_ ?_ (fun j hj => ?_) hw
          · rw [gI_sI, if_neg (by omega), gI_sI, if_neg (by omega)]; exact e11
          · rw [gI_sI, if_neg (by omega), gI_sI, if_neg (by omega)]; exact e24
          · rw [gI_sI, if_neg (by omega), gI_sI, if_neg (by omega)]; exact e25
          · by_cases e : j = i
            · subst e
              exact ⟨by rw [gI_sI, if_neg (by omega), gI_sI, if_pos ⟨rfl, rfl⟩]; exact ho, by rw [gI_sI, if_pos ⟨rfl, rfl⟩]; exact hcc⟩
            · exact ⟨by rw [gI_sI, if_neg (by omega), gI_sI, if_neg (by omega)]; exact (hall2 j (by omega)).1, by rw [gI_sI, if_neg (by omega), gI_sI, if_neg (by omega)]; exact (hall2 j (by omega)).2⟩
      have at50 : weigh1 N b pre c = some (lastF c N, sumF c N, pre, c) → P 50 [some tX, some (iv (nI pre.length)), some (iv (nI N)), some (iv z), some (iv (nI (lastF c N))), some (iv (nI (sumF c N))), some (iv (nI N))] [] s1 := by
        intro hw
        refine hP _ _ _ _ ?_
        refine at58 N 0 _ (by omega) ((xS.rf.f rfl).f rfl) ?_ ?_ ?_ (fun j hj => by omega) hw
        · rw [gI_sI, if_neg (by omega), gI_sI, if_neg (by omega)]; exact z1
        · rw [gI_sI, if_neg (by omega), gI_sI, if_pos ⟨rfl, rfl⟩]
        · rw [gI_sI, if_pos ⟨rfl, rfl⟩]
      have at49 : weigh1 N b pre c = b → P 49 [some tX, some (iv (nI pre.length)), some (iv (nI N)), some (iv z), some (iv (nI (lastF c N))), some (iv (nI (sumF c N))), some (iv (nI N))] [] s1 := by
        intro hw
        refine hP _ _ _ _ ⟨rfl, S1', z1, ?_, pre63⟩
        rw [hfold, hstep, hw]; exact B1
      have at33 : P 33 [some tX, some (iv (nI pre.length)), some (iv (nI N)), some (iv z), some (iv (nI (lastF c N))), some (iv (nI (sumF c N))), some (iv (nI N))] [] s1 := by
        refine hP _ _ _ _ ?_
        cases b with
        | none =>
          have h24 : gI s1 0 24 = - nI 1 := B1
          exact And.intro (fun _ => at50 rfl) (fun q => absurd h24 q)
        | some zz =>
          obtain ⟨h24, h25, y1, y2, -⟩ := B1
          refine And.intro (fun q => absurd (show gI s1 0 24 = - nI 1 from q) (by rw [h24]; exact nI_neg1 (by omega))) (fun _ => And.intro (fun q => ?_) (fun q => And.intro (fun q2 => ?_) (fun q2 => And.intro (fun q3 => ?_) (fun q3 => ?_))))
          · have q0 : gI s1 0 24 < nI (lastF c N) := q
            rw [h24, nI_ltI (by omega) (by omega)] at q0
            exact at49 (by unfold weigh1; exact if_pos (Or.inl q0))
          · have q0 : ¬ gI s1 0 24 < nI (lastF c N) := q
            rw [h24, nI_ltI (by omega) (by omega)] at q0
            have q1 : ¬ nI (lastF c N) = gI s1 0 24 := q2
            rw [h24, nI_eq (by omega) (by omega)] at q1
            exact at50 (by unfold weigh1; exact if_neg (fun e => by rcases e with e | e; exact q0 e; exact q1 e.1))
          · have q0 : ¬ gI s1 0 24 < nI (lastF c N) := q
            rw [h24, nI_ltI (by omega) (by omega)] at q0
            have q1 : nI (sumF c N) < gI s1 0 25 := q3
            rw [h25, nI_ltI (by omega) (by omega)] at q1
            exact at50 (by unfold weigh1; exact if_neg (fun e => by rcases e with e | e; exact q0 e; have := e.2; omega))
          · have q1 : nI (lastF c N) = gI s1 0 24 := q2
            rw [h24, nI_eq (by omega) (by omega)] at q1
            have q0 : ¬ nI (sumF c N) < gI s1 0 25 := q3
            rw [h25, nI_ltI (by omega) (by omega)] at q0
            exact at49 (by unfold weigh1; exact if_pos (Or.inr ⟨q1, by omega⟩))
      have at14 : ∀ (m i : Nat), i + m = N → P 14 [some tX, some (iv (nI pre.length)), some (iv (nI N)), some (iv z), some (iv (nI (lastF c i))), some (iv (nI (sumF c i))), some (iv (nI i))] [] s1 := by
        intro m
        induction m with
        | zero =>
          intro i hi
          have ei : i = N := by omega
          subst ei
          refine hP _ _ _ _ (And.intro (fun _ => at33) (fun q => absurd (nI_le (by omega) (by omega)) q))
        | succ m ih =>
          intro i hi
          have hi2 := hle i (by omega)
          obtain ⟨g1, g2⟩ := hc i (by omega)
          have ci : (nI i).toNatClampNeg = i := clN (by omega)
          have v4 : vp_in (nI i) 4 := vinN (by omega) (by decide)
          refine hP _ _ _ _ (And.intro (fun q => absurd q (nI_ge (by omega) (by omega))) (fun _ => And.intro v4 ?_))
          refine mcall (j_maxI G g l (d+57) s1 _ _ (lastF c i) (c i) rfl (show gI s1 64 (nI i).toNatClampNeg = _ from by rw [ci]; exact g1) (by omega) (by omega)) (fun r s2 h9 => ?_)
          obtain ⟨rfl, e9⟩ := h9
          subst e9
          refine And.intro v4 ?_
          show P 14 [some tX, some (iv (nI pre.length)), some (iv (nI N)), some (iv z), some (iv (nI (max (lastF c i) (c i)))), some (iv (nI (sumF c i) + gI s2 64 (nI i).toNatClampNeg)), some (iv (nI i + nI 1))] [] s2
          rw [ci, g1, nI_add, nI_add]
          have e1 : max (lastF c i) (c i) = lastF c (i+1) := by
            show _ = if lastF c i < c i then c i else lastF c i
            split <;> omega
          rw [e1]
          exact ih (i+1) (by omega)
      exact at14 N 0 (by omega)
  | succ m IH =>
    intro σ pre b x y z h hR hG hm hlt hx hy hz hO hB hok
    subst hx; subst hy
    have h12 := h.1.1
    refine MC1 tX0_orders [82, 95, 106] rfl okX0_orders rfl rfl rfl rfl (fun P hP => hP _ _ _ _ ?_)
    refine And.intro (fun _ => ?_) (fun q => absurd (show nI pre.length = nI N from q) (by rw [nI_eq (by omega) (by omega)]; omega))
    have key : ∀ (j w : Nat) (b' : Best) (τ : AS), w + j = N → xS oFs oIds σ τ → gI τ 0 11 = nI 0 → XBe N b' τ → (∀ i, i < pre.length → gI τ 63 i = gI σ 63 i) → (cmpF N (m+1) pre).foldl (rowStep T n N) b = ((List.range' w j).flatMap (fun w => if w ∈ pre then [] else cmpF N m (pre ++ [w]))).foldl (rowStep T n N) b' → P 82 [some tX, some (iv (nI pre.length)), some (iv (nI N)), some (iv z), some (iv (nI w)), none, none] [] τ := by
      intro j
      induction j with
      | zero =>
        intro w b' τ hj hS z1 hB' h63 he
        refine hP _ _ _ _ (And.intro (fun _ => ⟨rfl, hS, z1, ?_, h63⟩) (fun q => absurd (nI_le (by omega) (by omega)) q))
        rw [he]
        exact hB'
      | succ j ihj =>
        intro w b' τ hj hS z1 hB' h63 he
        have hw : w < N := by omega
        have next : ∀ (b2 : Best) (u : AS), xS oFs oIds σ u → gI u 0 11 = nI 0 → XBe N b2 u → (∀ i, i < pre.length → gI u 63 i = gI σ 63 i) → (cmpF N (m+1) pre).foldl (rowStep T n N) b = ((List.range' (w+1) j).flatMap (fun w => if w ∈ pre then [] else cmpF N m (pre ++ [w]))).foldl (rowStep T n N) b2 → P 106 [some tX, some (iv (nI pre.length)), some (iv (nI N)), some (iv z), some (iv (nI w)), none, none] [] u := by
          intro b2 u a1 a2 a3 a4 a5
          refine hP _ _ _ _ ?_
          show P 82 [some tX, some (iv (nI pre.length)), some (iv (nI N)), some (iv z), some (iv (nI w + nI 1)), none, none] [] u
          rw [nI_add]
          exact ihj (w+1) b2 u (by omega) a1 a2 a3 a4 a5
        rw [List.range'_succ, List.flatMap_cons, List.foldl_append] at he
        refine hP _ _ _ _ (And.intro (fun q => absurd q (nI_ge (by omega) (by omega))) (fun _ => ?_))
        refine mcall (x_has G g l (d+(m+1)+57) τ z w _ rfl) (fun r s1 h9 => ?_)
        obtain ⟨rfl, e9⟩ := h9
        subst e9
        rw [hz w hw]
        by_cases hp : w ∈ pre
        · rw [decide_eq_true hp]
          refine And.intro (fun q => absurd q (by decide)) (fun _ => ?_)
          rw [if_pos hp] at he
          exact next b' s1 hS z1 hB' h63 he
        · rw [decide_eq_false hp]
          refine And.intro (fun _ => ?_) (fun q => absurd rfl q)
          rw [if_neg hp] at he
          have cp : (nI pre.length).toNatClampNeg = pre.length := clN (by omega)
          refine And.intro (show vp_in (nI pre.length) 4 from vinN (by omega) (by decide)) ?_
          generalize hu : sI s1 63 pre.length (nI w) = u
          show P 95 [some tX, some (iv (nI pre.length)), some (iv (nI N)), some (iv z), some (iv (nI w)), none, none] [] (sI s1 63 (nI pre.length).toNatClampNeg (nI w))
          rw [cp, hu]
          have Su : xS oFs oIds σ u := by rw [← hu]; exact hS.a (by decide)
          have zu1 : gI u 0 11 = nI 0 := by rw [← hu, gI_sI, if_neg (by omega)]; exact z1
          have Bu : XBe N b' u := by rw [← hu]; exact hB'.xs (xS.rf.a (fs := []) (ids := [63]) rfl) rfl rfl
          have Ou : XOr (pre ++ [w]) u := by
            intro i x hx
            rw [← hu, gI_sI]
            by_cases hi : i < pre.length
            · rw [List.getElem?_append_left hi] at hx
              rw [if_neg (by omega), h63 i hi]
              exact hO i x hx
            · rw [List.getElem?_append_right (by omega)] at hx
              have hz9 : i - pre.length < 1 := (List.getElem?_eq_some_iff.mp hx).1
              have ei : i = pre.length := by omega
              subst ei
              simp at hx
              subst hx
              rw [if_pos ⟨rfl, rfl⟩]
          refine hP _ _ _ _ ?_
          refine mcall (IH u (pre ++ [w]) b' _ _ _ (h.xso Su) (XRd.nil zu1) (hG.xso Su) (by simp; omega) (fun x hx => ?_) (by rw [nI_add]; simp) rfl (fun j hj => ?_) Ou Bu (fun os hos => ?_)) (fun r s2 h9 => ?_)
          · rcases List.mem_append.mp hx with q | q
            · exact hlt x q
            · have : x = w := by simpa using q
              omega
          · rw [hasB_or _ _ (by omega), hz j hj, hasB_one (by omega) (by omega)]
            by_cases e1 : j ∈ pre <;> by_cases e2 : j = w <;> simp [e1, e2]
          · refine hok os ?_
            show os ∈ (List.range N).flatMap (fun w => if w ∈ pre then [] else cmpF N m (pre ++ [w]))
            rw [List.mem_flatMap]
            exact ⟨w, List.mem_range.mpr hw, by rw [if_neg hp]; exact hos⟩
          · obtain ⟨rfl, S2, z2, B2, P2⟩ := h9
            refine next _ s2 (Su.tr S2) z2 B2 (fun i hi => ?_) he
            rw [P2 i (by simp; omega), ← hu, gI_sI, if_neg (by omega)]
            exact h63 i hi
    refine key N 0 b σ (by omega) xS.rf hR.1 hB (fun i _ => rfl) ?_
    show ((List.range N).flatMap (fun w => if w ∈ pre then [] else cmpF N m (pre ++ [w]))).foldl (rowStep T n N) b = _
    rw [List.range_eq_range']
end OR_
