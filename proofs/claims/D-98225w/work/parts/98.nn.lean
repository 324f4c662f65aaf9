def isNm (N : Nms) (k v : Nat) : Bool := (nmOf N k v).isSome
def anyN (N : Nms) (v : Nat) : Nat → Bool
  | 0 => false
  | k+1 => anyN N v k || isNm N k v
def newK (tp : List Nat) (N : Nms) (k a : Nat) : PR Nat := match namF tp a with
  | .error f => .error f
  | .ok z => if anyN N z.1 k = true then .error (3, a) else .ok z
/-- a name that isn't told yet -/
def newF (tp : List Nat) (N : Nms) (a : Nat) : PR Nat := newK tp N 3 a
/-- a place that is told, but one -/
def plcF (tp : List Nat) (N : Nms) (but : Option Nat) (a : Nat) : PR Nat := match namF tp a with
  | .error f => .error f
  | .ok z => match nmOf N 0 z.1 with
    | none => .error (3, a)
    | some k => if but = some k then .error (3, a) else .ok (k, z.2)
theorem idxF_lt (v : Nat) : ∀ (l : List Nat) (k i : Nat), idxF v l k = some i → k ≤ i ∧ i < k + l.length
  | [], k, i, h => by cases h
  | x :: l, k, i, h => by
    unfold idxF at h
    split at h
    · cases h; exact ⟨Nat.le_refl _, by simp⟩
    · have := idxF_lt v l (k+1) i h
      simp
      omega
theorem nmOf_lt {N : Nms} {k v i : Nat} (h : nmOf N k v = some i) : i < (nmK N k).length := by
  have := idxF_lt v (nmK N k) 0 i h
  omega
section NN_
variable (G : CX) (g : GX) (l : Launch) (d : Nat) (σ : AS)
theorem PX.bad {tp : List Nat} {S : Pos} {σ : AS} (h : PX tp S σ) : (∃ a, S = .ok a ∧ gI σ 200 5 = nI 0) ∨ (∃ f, S = .error f ∧ ¬ gI σ 200 5 = nI 0) := by
  cases S with
  | ok a => obtain ⟨a', h⟩ := h; exact Or.inl ⟨a, rfl, h.2.1⟩
  | error f => exact Or.inr ⟨f, rfl, pf_bad h⟩
theorem PX.pb {tp : List Nat} {S : Pos} {σ : AS} (h : PX tp S σ) : PB tp σ := by
  cases S with
  | ok a => obtain ⟨a', h⟩ := h; exact h.1
  | error f => exact h.1
theorem optI_m1 {o : Option Nat} (h : ∀ k, o = some k → k < 1000) : (optI o = - nI 1 ↔ o = none) := by
  cases o with
  | none => exact ⟨fun _ => rfl, fun _ => rfl⟩
  | some k => exact ⟨fun e => absurd e (nI_ne_m1 (by have := h k rfl; omega)), fun e => by cases e⟩
set_option maxHeartbeats 1000000 in
theorem c_newName (tp : List Nat) (S : Pos) (h : PX tp S σ) (hW : Wds σ) (N : Nms) (hN : MNm N σ) (hS9 : ∀ a, S = .ok a → a ≤ 1600) :
    MC G g l (d+5) mX6_newName [tM] σ (fun r t => mS [2, 4, 5, 6, 27] [] σ t ∧ PX tp (bnd S (fun a => posOf (newF tp N a))) t ∧ ∃ v, r = some (jv v) ∧ ∀ a z, S = .ok a → newF tp N a = .ok z → v = lN z.1) := by
  refine MC1 tX6_newName [5, 22] rfl okX6_newName rfl rfl rfl rfl (fun P hP => ?_)
  refine hP _ _ _ _ ?_
  refine mcall (c_name G g l d σ tp S h hW) (fun r s1 h8 => ?_)
  obtain ⟨S1, X1, v, rfl, V1⟩ := h8
  have key : ∀ (m k : Nat) (τ : AS), k + m = 3 → mS [2, 4, 5, 6, 27] [] σ τ → (∀ a z, S = .ok a → namF tp a = .ok z → gI τ 200 27 = nI a) → PX tp (bnd S (fun a => posOf (newK tp N k a))) τ → P 5 [some tM, some (jv v), none, some (iv (nI k))] [] τ := by
    intro m
    induction m with
    | zero =>
      intro k τ hk hS h27 hX
      have ek : k = 3 := by omega
      subst ek
      refine hP _ _ _ _ (And.intro (fun _ => ⟨hS, hX, v, rfl, fun a z e1 e2 => ?_⟩) (fun q => absurd (nI_le (by omega) (by omega)) q))
      unfold newF newK at e2
      cases hn : namF tp a with
      | error f => rw [hn] at e2; cases e2
      | ok y =>
        rw [hn] at e2
        simp only at e2
        split at e2
        · cases e2
        · cases e2
          exact (V1 a _ e1 hn).1
    | succ m ih =>
      intro k τ hk hS h27 hX
      have next : ∀ τ', mS [2, 4, 5, 6, 27] [] σ τ' → (∀ a z, S = .ok a → namF tp a = .ok z → gI τ' 200 27 = nI a) → PX tp (bnd S (fun a => posOf (newK tp N (k+1) a))) τ' → P 22 [some tM, some (jv v), none, some (iv (nI k))] [] τ' := by
        intro τ' a1 a2 a3
        refine hP _ _ _ _ ?_
        show P 5 [some tM, some (jv v), none, some (iv (nI k + nI 1))] [] τ'
        rw [nI_add]
        exact ih (k+1) τ' (by omega) a1 a2 a3
      refine hP _ _ _ _ (And.intro (fun q => absurd q (nI_ge (by omega) (by omega))) (fun _ => ?_))
      rcases hX.bad with ⟨b, eb, hb⟩ | ⟨f, ef, hb⟩
      · refine And.intro (fun q => absurd hb q) (fun _ => ?_)
        cases S with
        | error f => cases eb
        | ok a =>
          have eb0 : posOf (newK tp N k a) = .ok b := eb
          cases hn : namF tp a with
          | error f =>
            have : newK tp N k a = .error f := by unfold newK; rw [hn]
            rw [this] at eb0
            cases eb0
          | ok z =>
            have hnk : anyN N z.1 k = false := by
              cases hc : anyN N z.1 k with
              | false => rfl
              | true =>
                have : newK tp N k a = .error (3, a) := by unfold newK; rw [hn]; simp only [hc, if_true]
                rw [this] at eb0
                cases eb0
            have hz := namF_ok hn
            have hv : v = lN z.1 := (V1 a z rfl hn).1
            refine mcall (c_nameOf G g l (d+3) τ N (hN.keep hS rfl) _ v k rfl (by omega)) (fun r s2 h8 => ?_)
            obtain ⟨rfl, u, rfl, hu⟩ := h8
            have hu := hu z.1 hv (by omega)
            subst hu
            have hlt : ∀ j, nmOf N k z.1 = some j → j < 1000 := fun j hj => by have := nmOf_lt hj; have := (hN.cnt (k := k) (by omega)).2; omega
            have ek1 : newK tp N (k+1) a = if isNm N k z.1 = true then .error (3, a) else .ok z := by
              unfold newK
              rw [hn]
              show (if (anyN N z.1 k || isNm N k z.1) = true then Except.error (3, a) else Except.ok z) = _
              rw [hnk, Bool.false_or]
            refine And.intro (fun q => ?_) (fun q => ?_)
            · have q0 := (optI_m1 hlt).mp q
              refine next s2 hS h27 ?_
              show PX tp (posOf (newK tp N (k+1) a)) s2
              have e1 : newK tp N k a = .ok z := by unfold newK; rw [hn]; simp only [hnk]; rfl
              have e2 : newK tp N (k+1) a = .ok z := by rw [ek1, if_neg (by unfold isNm; rw [q0]; decide)]
              have hX2 : PX tp (posOf (newK tp N k a)) s2 := hX
              rw [e1] at hX2
              rw [e2]
              exact hX2
            · have q0 : nmOf N k z.1 ≠ none := fun e => q ((optI_m1 hlt).mpr e)
              have h5 : gI s2 200 5 = nI 0 := hb
              refine mcall (c_fail0 G g l (d+3) s2 tp hX.pb h5 _ _ 3 a rfl (h27 a z rfl hn) (by omega) (by omega) (hS9 a rfl)) (fun r s3 h8 => ?_)
              obtain ⟨rfl, S3, F3⟩ := h8
              refine next s3 (hS.tr (S3.mono rfl rfl)) (fun a' z' e1 e2 => by rw [S3.i 200 27 rfl rfl]; exact h27 a' z' e1 e2) ?_
              show PX tp (posOf (newK tp N (k+1) a)) s3
              have e2 : newK tp N (k+1) a = .error (3, a) := by
                rw [ek1, if_pos]
                unfold isNm
                cases hc : nmOf N k z.1 with
                | none => exact absurd hc q0
                | some _ => rfl
              rw [e2]
              exact F3
      · refine And.intro (fun _ => ?_) (fun q => absurd q hb)
        refine next τ hS h27 ?_
        rw [ef] at hX
        have : bnd S (fun a => posOf (newK tp N (k+1) a)) = .error f := by
          cases S with
          | error f' => exact ef
          | ok a =>
            have ef0 : posOf (newK tp N k a) = .error f := ef
            show posOf (newK tp N (k+1) a) = .error f
            unfold newK at ef0 ⊢
            cases hn : namF tp a with
            | error f' => rw [hn] at ef0; exact ef0
            | ok z =>
              rw [hn] at ef0
              simp only at ef0 ⊢
              split at ef0
              · rename_i hc
                rw [if_pos (by show (anyN N z.1 k || isNm N k z.1) = true; rw [hc]; rfl)]
                exact ef0
              · cases ef0
        rw [this]
        exact hX
  refine key 3 0 s1 rfl S1 (fun a z e1 e2 => (V1 a z e1 e2).2) ?_
  have e0 : (fun a => posOf (newK tp N 0 a)) = (fun a => posOf (namF tp a)) := by
    funext a
    unfold newK
    cases namF tp a with
    | error f => rfl
    | ok z => rfl
  rw [e0]
  exact X1
set_option maxHeartbeats 1000000 in
theorem c_placeTold (tp : List Nat) (S : Pos) (h : PX tp S σ) (hW : Wds σ) (N : Nms) (hN : MNm N σ) (hS9 : ∀ a, S = .ok a → a ≤ 1600) (x : Int32) (but : Option Nat) (hx : (∃ a, S = .ok a) → ∀ k, k < 100 → (nI k = x ↔ but = some k)) :
    MC G g l (d+5) mX6_placeTold [tM, iv x] σ (fun r t => mS [2, 4, 5, 6, 27] [] σ t ∧ PX tp (bnd S (fun a => posOf (plcF tp N but a))) t ∧ ∃ u, r = some (iv u) ∧ ∀ a z, S = .ok a → plcF tp N but a = .ok z → u = nI z.1) := by
  refine MC1 tX6_placeTold [17, 22] rfl okX6_placeTold rfl rfl rfl rfl (fun P hP => ?_)
  refine hP _ _ _ _ ?_
  refine mcall (c_name G g l d σ tp S h hW) (fun r s1 h8 => ?_)
  obtain ⟨S1, X1, v, rfl, V1⟩ := h8
  refine mcall (c_nameOf G g l (d+3) s1 N (hN.keep S1 rfl) _ v 0 rfl (by omega)) (fun r s2 h8 => ?_)
  obtain ⟨rfl, u, rfl, hu⟩ := h8
  have at22 : ∀ τ, mS [2, 4, 5, 6, 27] [] σ τ → PX tp (bnd S (fun a => posOf (plcF tp N but a))) τ → (∀ a z, S = .ok a → plcF tp N but a = .ok z → u = nI z.1) → P 22 [some tM, some (iv x), some (jv v), none, some (iv u)] [] τ := by
    intro τ hS hX hu
    refine hP _ _ _ _ ?_
    rcases hX.bad with ⟨b, eb, hb⟩ | ⟨f, ef, hb⟩
    · exact And.intro (fun q => absurd hb q) (fun _ => ⟨hS, hX, u, rfl, hu⟩)
    · refine And.intro (fun _ => ⟨hS, hX, _, rfl, fun a z e1 e2 => ?_⟩) (fun q => absurd q hb)
      exfalso
      rw [e1] at ef
      have ef0 : posOf (plcF tp N but a) = .error f := ef
      rw [e2] at ef0
      cases ef0
  rcases X1.bad with ⟨b, eb, hb⟩ | ⟨f, ef, hb⟩
  · refine And.intro (fun q => absurd hb q) (fun _ => ?_)
    cases S with
    | error f => cases eb
    | ok a =>
      have eb0 : posOf (namF tp a) = .ok b := eb
      cases hn : namF tp a with
      | error f => rw [hn] at eb0; cases eb0
      | ok z =>
        have hz := namF_ok hn
        obtain ⟨hv, h27⟩ := V1 a z rfl hn
        have hu := hu z.1 hv (by omega)
        subst hu
        have hlt : ∀ j, nmOf N 0 z.1 = some j → j < 100 := fun j hj => by have := nmOf_lt hj; have := (hN.cnt (k := 0) (by omega)).2; omega
        have X2 : PX tp (posOf (namF tp a)) s2 := X1
        have at17 : plcF tp N but a = .error (3, a) → P 17 [some tM, some (iv x), some (jv v), none, some (iv (optI (nmOf N 0 z.1)))] [] s2 := by
          intro ep
          refine hP _ _ _ _ ?_
          refine mcall (c_fail0 G g l (d+3) s2 tp X2.pb hb _ _ 3 a rfl h27 (by omega) (by omega) (hS9 a rfl)) (fun r s3 h8 => ?_)
          obtain ⟨rfl, S3, F3⟩ := h8
          refine at22 s3 (S1.tr (S3.mono rfl rfl)) ?_ (fun a' z' e1 e2 => ?_)
          · show PX tp (posOf (plcF tp N but a)) s3
            rw [ep]
            exact F3
          · cases e1
            rw [ep] at e2
            cases e2
        cases ho : nmOf N 0 z.1 with
        | none =>
          rw [ho] at at17
          exact And.intro (fun _ => at17 (by unfold plcF; rw [hn]; simp only [ho])) (fun q => absurd rfl q)
        | some k =>
          have hk := hlt k ho
          rw [ho] at at17 at22
          refine And.intro (fun q => absurd q (nI_ne_m1 (by omega))) (fun _ => And.intro (fun q => ?_) (fun q => ?_))
          · have q0 : ¬ but = some k := fun e => q ((hx ⟨a, rfl⟩ k hk).mpr e)
            have ep : plcF tp N but a = .ok (k, z.2) := by unfold plcF; rw [hn]; simp only [ho]; rw [if_neg q0]
            refine at22 s2 S1 ?_ (fun a' z' e1 e2 => ?_)
            · show PX tp (posOf (plcF tp N but a)) s2
              rw [ep]
              rw [hn] at X2
              exact X2
            · cases e1
              rw [ep] at e2
              cases e2
              rfl
          · have q0 : but = some k := (hx ⟨a, rfl⟩ k hk).mp q
            exact at17 (by unfold plcF; rw [hn]; simp only [ho]; rw [if_pos q0])
  · refine And.intro (fun _ => ?_) (fun q => absurd q hb)
    rw [ef] at X1
    have e9 : bnd S (fun a => posOf (plcF tp N but a)) = .error f := by
      cases S with
      | error f' => exact ef
      | ok a =>
        have ef0 : posOf (namF tp a) = .error f := ef
        show posOf (plcF tp N but a) = .error f
        unfold plcF
        cases hn : namF tp a with
        | error f' => rw [hn] at ef0; exact ef0
        | ok z => rw [hn] at ef0; cases ef0
    refine at22 s2 S1 (by rw [e9]; exact X1) (fun a z e1 e2 => ?_)
    exfalso
    rw [e1] at e9
    have e8 : posOf (plcF tp N but a) = .error f := e9
    rw [e2] at e8
    cases e8
theorem c_isFull (tp : List Nat) (S : Pos) (h : PX tp S σ) (N : Nms) (hN : MNm N σ) (x y z : Int32) (k room p : Nat) (hx : x = nI k) (hy : y = nI room) (hz : z = nI p) (hk : k < 3) (hr : room ≤ 1000) (hp : p ≤ 1600) :
    MC G g l (d+2) mX6_isFull [tM, iv x, iv y, iv z] σ (fun r t => mS [5, 6] [] σ t ∧ (match S with
      | .error f => r = some (iv (nI 1)) ∧ PF tp f t
      | .ok a => ((nmK N k).length = room ∧ r = some (iv (nI 1)) ∧ PF tp (5, p) t) ∨ (¬ (nmK N k).length = room ∧ r = some (iv (nI 0)) ∧ t = σ))) := by
  subst hx; subst hy; subst hz
  have hc := hN.cnt hk
  refine MC0 tX6_isFull rfl okX6_isFull rfl rfl rfl rfl (fun P => ?_)
  cases S with
  | error f =>
    exact And.intro (fun _ => And.intro (fun q => absurd q (pf_bad h)) (fun _ => ⟨nar1, mS.rf, rfl, h⟩)) (fun q => absurd q (pf_bad h))
  | ok a =>
    obtain ⟨a', h9⟩ := h
    refine And.intro (fun q => absurd h9.2.1 q) (fun _ => And.intro (show vp_in (nI k) 6 from vinN (by omega) (by decide)) (And.intro (fun q => And.intro (fun _ => ⟨nar0, mS.rf, Or.inr ⟨?_, rfl, rfl⟩⟩) (fun q2 => absurd h9.2.1 q2)) (fun q => ?_)))
    · have q0 : ¬ gI σ 220 (nI k).toNatClampNeg = nI room := q
      rw [clN (by omega), hc.1, nI_eq (by omega) (by omega)] at q0
      exact q0
    · have q0 : gI σ 220 (nI k).toNatClampNeg = nI room := q
      rw [clN (by omega), hc.1, nI_eq (by omega) (by omega)] at q0
      refine mcall (c_fail0 G g l d σ tp h9.1 h9.2.1 _ _ 5 p rfl rfl (by omega) (by omega) hp) (fun r s3 h8 => ?_)
      obtain ⟨rfl, S3, F3⟩ := h8
      exact And.intro (fun q => absurd q (pf_bad F3)) (fun _ => ⟨nar1, S3, Or.inl ⟨q0, rfl, F3⟩⟩)
end NN_
