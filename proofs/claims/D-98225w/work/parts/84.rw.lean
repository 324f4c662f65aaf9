/-! MANY AT ONCE: orders, who goes when, the best -/
def digD (k v i : Nat) : Nat := v / k ^ (k - 1 - i) % k
def setJ (k v : Nat) : Nat → Int32
  | 0 => nI 0
  | m+1 => setJ k v m ||| (nI 1 <<< (nI (digD k v (k - 1 - m)) &&& 31))
def isOrd (k v : Nat) : Bool := decide (setJ k v k = (nI 1 <<< (nI k &&& 31)) - nI 1)
def ordL (k v : Nat) : List Nat := (List.range k).map (digD k v)
/-- all orders of so many, by the first that differs -/
def permsF (k : Nat) : List (List Nat) := ((List.range (k ^ k)).filter (isOrd k)).map (ordL k)
def rideOf (T : Twn) (w : Nat) (x : Nat × Nat) : Ride := (x.1, x.2, Tbr T w)
noncomputable def wayR (T : Twn) (n : Nws) (rs : List Ride) (w : Nat) : List (Nat × Nat) := wayF T n rs 99 (Tbr T w) (EAw T n rs 99 w) (Nat_ n w) 9 (Nto n w)
/-- the walkers of an order one after the other: when each arrives; none if one can't -/
noncomputable def allGoF (T : Twn) (n : Nws) : List Nat → List Ride → (Nat → Nat) → Option (Nat → Nat)
  | [], _, c => some c
  | w :: os, rs, c => if EAw T n rs 99 w (Nto n w) = NV then none else allGoF T n os (rs ++ (wayR T n rs w).map (rideOf T w)) (updN c w (EAw T n rs 99 w (Nto n w)))
def lastF (c : Nat → Nat) : Nat → Nat
  | 0 => 0
  | m+1 => if lastF c m < c m then c m else lastF c m
def sumF (c : Nat → Nat) : Nat → Nat
  | 0 => 0
  | m+1 => sumF c m + c m
abbrev Best : Type := Option (Nat × Nat × List Nat × (Nat → Nat))
def weigh1 (k : Nat) (b : Best) (os : List Nat) (c : Nat → Nat) : Best := match b with
  | none => some (lastF c k, sumF c k, os, c)
  | some x => if x.1 < lastF c k ∨ lastF c k = x.1 ∧ x.2.1 ≤ sumF c k then some x else some (lastF c k, sumF c k, os, c)
noncomputable def rowStep (T : Twn) (n : Nws) (k : Nat) (b : Best) (os : List Nat) : Best := match allGoF T n os [] (fun _ => 0) with
  | none => b
  | some c => weigh1 k b os c
noncomputable def rowsF (T : Twn) (n : Nws) (k : Nat) : Best := (permsF k).foldl (rowStep T n k) none
def okRows (T : Twn) (a b : Int32) : Bool := btw a 1 4 && (decide (a.toNatClampNeg ≤ Tnw T) && (decide (b = - nI 1) || (inR b a.toNatClampNeg || btw b 10 (a.toNatClampNeg + 9))))
def rowI (b : Int32) (x : Best) : Int32 := match x with
  | none => - nI 1
  | some x => if b = - nI 1 then nI x.1 else if b.toNatClampNeg < 10 then nI (x.2.2.1.getD b.toNatClampNeg 0) else nI (x.2.2.2 (b.toNatClampNeg - 10))
noncomputable def q_rows (T : Twn) (n : Nws) (a b : Int32) : Int32 := if okRows T a b = true then rowI b (rowsF T n a.toNatClampNeg) else - nI 1
theorem digD_lt {k v i : Nat} (hk : 1 ≤ k) : digD k v i < k := Nat.mod_lt _ (by omega)
section RW_
variable (G : CX) (g : GX) (l : Launch) (d : Nat) (σ : AS)
/-- the order that is told, in the reference's array -/
def MOr (os : List Nat) (σ : AS) : Prop := ∀ i x, os[i]? = some x → gI σ 236 i = nI x
theorem MOr.keep {fs ids : List Nat} {os : List Nat} {σ s : AS} (h : MOr os σ) (hS : mS fs ids σ s) (h1 : ids.contains 236 = false) : MOr os s := fun i x hx => by
  rw [hS.ia 236 h1 rfl]
  exact h i x hx
set_option maxHeartbeats 1000000 in
theorem c_isOrder (x y : Int32) (v k : Nat) (hx : x = nI v) (hy : y = nI k) (hk : 1 ≤ k) (hk4 : k ≤ 4) (hv : v ≤ 1000) :
    MC G g l (d+1) mX6_isOrder [tM, iv x, iv y] σ (fun r t => r = some (iv (bI (isOrd k v))) ∧ mS [] [236] σ t ∧ MOr (ordL k v) t) := by
  subst hx; subst hy
  refine MC1 tX6_isOrder [8] rfl okX6_isOrder rfl rfl rfl rfl (fun P hP => ?_)
  have key : ∀ (j m : Nat) (u : Int32) (τ : AS), j + m = k → u = nI j - nI 1 → mS [] [236] σ τ → (∀ i, j ≤ i → i < k → gI τ 236 i = nI (digD k v i)) →
      P 8 [some tM, some (iv (nI v)), some (iv (nI k)), some (iv (nI (v / k ^ m))), some (iv (setJ k v m)), some (iv u)] [] τ := by
    intro j
    induction j with
    | zero =>
      intro m u τ hm hu hS hall
      have em : m = k := by omega
      subst em
      subst hu
      have hO : MOr (ordL m v) τ := by
        intro i x hx
        have hi : i < m := by
          have := (List.getElem?_eq_some_iff.mp hx).1
          simpa [ordL] using this
        have : x = digD m v i := by
          simp [ordL, List.getElem?_map, List.getElem?_range hi] at hx
          exact hx.symm
        rw [this]
        exact hall i (Nat.zero_le _) hi
      refine hP _ _ _ _ (And.intro (fun _ => ?_) (fun q => absurd (show nI 0 - nI 1 < nI 0 by decide) q))
      refine And.intro (fun q => ⟨nar0, ?_, hS, hO⟩) (fun q => ⟨nar1, ?_, hS, hO⟩)
      · rw [show isOrd m v = false from decide_eq_false q]; rfl
      · rw [show isOrd m v = true from decide_eq_true q]; rfl
    | succ j ih =>
      intro m u τ hm hu hS hall
      replace hu := hu.trans (nI_pred j)
      subst hu
      have hpos : 0 < k ^ m := Nat.pow_pos (by omega)
      have hvd : v / k ^ m ≤ v := Nat.div_le_self _ _
      have ek : k - 1 - m = j := by omega
      have ed : v / k ^ m % k = digD k v j := by unfold digD; rw [show k - 1 - j = m by omega]
      have er : nI (v / k ^ m) - nI (v / k ^ m) / nI k * nI k = nI (digD k v j) := by rw [pk_rem (by omega) (by omega) (by omega), ed]
      have e2 : nI (v / k ^ m) / nI k = nI (v / k ^ (m+1)) := by rw [pk_div (by omega) (by omega) (by omega), Nat.div_div_eq_div_mul, Nat.pow_succ]
      have cj : (nI j).toNatClampNeg = j := clN (by omega)
      have vj : vp_in (nI j) 4 := vinN (by omega) (by decide)
      have nz : ¬ nI k = 0 := by
        intro e
        have e0 : nI k = nI 0 := e
        rw [nI_eq (by omega) (by omega)] at e0
        omega
      refine hP _ _ _ _ (And.intro (fun q9 => absurd q9 ?_) (fun _ => ?_))
      · show ¬ nI j < nI 0
        rw [nI_ltI (by omega) (by omega)]; omega
      refine And.intro nz (And.intro vj (And.intro nz (And.intro vj ?_)))
      show P 8 [some tM, some (iv (nI v)), some (iv (nI k)), some (iv (nI (v / k ^ m) / nI k)), some (iv (setJ k v m ||| (nI 1 <<< ((gI (sI τ 236 (nI j).toNatClampNeg (nI (v / k ^ m) - nI (v / k ^ m) / nI k * nI k)) 236 (nI j).toNatClampNeg) &&& 31)))), some (iv (nI j - nI 1))] [] (sI τ 236 (nI j).toNatClampNeg (nI (v / k ^ m) - nI (v / k ^ m) / nI k * nI k))
      rw [er, e2, cj, gI_sI, if_pos ⟨rfl, rfl⟩]
      have es : setJ k v m ||| (nI 1 <<< (nI (digD k v j) &&& 31)) = setJ k v (m+1) := by
        conv => rhs; unfold setJ
        rw [ek]
      rw [es]
      refine ih (m+1) _ _ (by omega) rfl (hS.a rfl) (fun i h1 h2 => ?_)
      rw [gI_sI]
      by_cases e : i = j
      · rw [if_pos ⟨rfl, e⟩, e]
      · rw [if_neg (fun q => e q.2)]; exact hall i (by omega) h2
  refine hP _ _ _ _ ?_
  have e0 : v = v / k ^ 0 := by simp
  show P 8 [some tM, some (iv (nI v)), some (iv (nI k)), some (iv (nI v)), some (iv (nI 0)), some (iv (nI k - nI 1))] [] σ
  have := key k 0 (nI k - nI 1) σ rfl rfl mS.rf (fun i h1 h2 => by omega)
  rw [← e0] at this
  exact this
theorem MRd.push {rs : List Ride} {σ : AS} (h : MRd rs σ) {r : Ride} (hl : rs.length < 60) (h1 : r.1 < 12) (h2 : r.2.1 ≤ 100000) (h3 : r.2.2 ≤ 99) : MRd (rs ++ [r]) (sI (sI (sI (sI σ 231 (3 * rs.length) (nI r.1)) 231 (3 * rs.length + 1) (nI r.2.1)) 231 (3 * rs.length + 2) (nI r.2.2)) 200 47 (nI (rs.length + 1))) := by
  refine ⟨by simp [gI_sI], by simp; omega, fun k y hy => ?_⟩
  by_cases hk : k < rs.length
  · rw [List.getElem?_append_left hk] at hy
    have := h.2.2 k y hy
    simp only [gI_sI]
    refine ⟨?_, this.2⟩
    rw [if_neg (by omega), if_neg (by omega), if_neg (by omega), if_neg (by omega), if_neg (by omega), if_neg (by omega), if_neg (by omega), if_neg (by omega), if_neg (by omega), if_neg (by omega), if_neg (by omega), if_neg (by omega)]
    exact this.1
  · rw [List.getElem?_append_right (by omega)] at hy
    have hz : k - rs.length < 1 := (List.getElem?_eq_some_iff.mp hy).1
    have : k = rs.length := by omega
    subst this
    simp at hy
    subst hy
    refine ⟨?_, h1, h2, h3⟩
    simp only [gI_sI]
    rw [if_neg (by omega), if_neg (by omega), if_neg (by omega), if_pos (by simp), if_neg (by omega), if_neg (by omega), if_pos (by simp), if_neg (by omega), if_pos (by simp)]
    exact ⟨rfl, rfl, rfl⟩
theorem wayF_hr {T : Twn} {n : Nws} {rs : List Ride} {wo b src : Nat} {A : Nat → Nat} (hT : TOK T) (h9 : ∀ q, q < Tnp T → A q ≤ NV) : ∀ (m p : Nat) (x : Nat × Nat), p < Tnp T → A p ≤ 20000 → x ∈ wayF T n rs wo b A src m p → x.2 ≤ 20000
  | 0, p, x, _, _, h => by simp [wayF] at h
  | m+1, p, x, hp, hA, h => by
    unfold wayF at h
    split at h
    · simp at h
    · cases hb : back1 T n rs wo b A p with
      | none => rw [hb] at h; simp at h
      | some y =>
        rw [hb] at h
        obtain ⟨b1, b2, b3, b4, b5⟩ := backF_is _ _ _ hb
        have hs : y.1 < Tns T := by omega
        have ht := (hT.2.1 y.1 hs).2.2.2.1
        have hq := (other_np hT hs b3).1
        have hle : A y.2.1 ≤ y.2.2 ∧ y.2.2 + Ttk T y.1 = A p := by
          rw [b5]
          rcases tk1_spec T n rs y.1 b (A y.2.1) (A p + 1) ht.1 (by omega) with ⟨e1, -⟩ | ⟨-, e2, -⟩
          · exact absurd e1 b4.2.2.1
          · exact ⟨e2, b4.2.2.2⟩
        rcases List.mem_cons.mp h with e | e
        · rw [e]; show y.2.2 ≤ 20000; omega
        · exact wayF_hr hT h9 m _ x hq (by omega) e
set_option maxHeartbeats 2000000 in
theorem c_allGo (T : Twn) (n : Nws) (h : TN T n σ) (x : Int32) (os : List Nat) (hx : x = nI os.length) (hl : os.length ≤ 4) (ho : ∀ w ∈ os, w < Tnw T ∧ w < 4) (hO : MOr os σ) :
    MC G g l (d+14) mX6_allGo [tM, iv x] σ (fun r t => r = some (iv (bI (allGoF T n os [] (fun _ => 0)).isSome)) ∧ mS [43, 47, 51] [228, 229, 231, 232, 233, 234, 238] σ t ∧ ∀ c, allGoF T n os [] (fun _ => 0) = some c → ∀ w ∈ os, gI t 238 w = nI (c w) ∧ c w ≤ 10400) := by
  subst hx
  have h12 := h.1.1
  refine MC1 tX6_allGo [5, 31] rfl okX6_allGo rfl rfl rfl rfl (fun P hP => ?_)
  have key : ∀ (rest pre : List Nat) (rs : List Ride) (c : Nat → Nat) (τ : AS) (x3 x4 : Option AV), pre ++ rest = os → mS [43, 47, 51] [228, 229, 231, 232, 233, 234, 238] σ τ → MRd rs τ → rs.length ≤ 8 * pre.length → (∀ w ∈ pre, gI τ 238 w = nI (c w) ∧ c w ≤ 10400) → allGoF T n os [] (fun _ => 0) = allGoF T n rest rs c →
      P 5 [some tM, some (iv (nI os.length)), some (iv (nI pre.length)), x3, x4] [] τ := by
    intro rest
    induction rest with
    | nil =>
      intro pre rs c τ x3 x4 he hS hR hrl hc ha
      rw [List.append_nil] at he
      subst he
      refine hP _ _ _ _ (And.intro (fun _ => ⟨nar1, by rw [ha]; rfl, hS, fun c' hc' => ?_⟩) (fun q => absurd (nI_le (Nat.le_refl _) (by omega)) q))
      rw [ha] at hc'
      cases hc'
      exact hc
    | cons w rest ih =>
      intro pre rs c τ x3 x4 he hS hR hrl hc ha
      have hlen : pre.length + (rest.length + 1) = os.length := by rw [← he]; simp
      have hTN := h.keep hS rfl rfl
      have hwm : w ∈ os := by rw [← he]; simp
      obtain ⟨hw, hw4⟩ := ho w hwm
      have hat := at_np h.1 h.2.1 hw
      have hbr := (h.1.2.2 w hw).1
      have gO : gI τ 236 (nI pre.length).toNatClampNeg = nI w := by
        rw [clN (by omega)]
        exact hO.keep hS rfl pre.length w (by rw [← he]; simp)
      refine hP _ _ _ _ (And.intro (fun q => absurd q (nI_ge (by omega) (by omega))) (fun _ => And.intro (show vp_in (nI pre.length) 4 from vinN (by omega) (by decide)) ?_))
      refine mcall (c_findsWay G g l d τ T n hTN rs hR _ w gO hw) (fun r s1 h9 => ?_)
      obtain ⟨rfl, S1, M1, E1, W1⟩ := h9
      have S1' := hS.tr (S1.mono (fs' := [43, 47, 51]) (ids' := [228, 229, 231, 232, 233, 234, 238]) rfl rfl)
      by_cases hN : EAw T n rs 99 w (Nto n w) = NV
      · rw [decide_eq_false (fun e => e hN)]
        refine And.intro (fun q => absurd rfl q) (fun _ => ⟨nar0, ?_, S1', fun c' hc' => ?_⟩)
        · rw [ha]
          unfold allGoF
          rw [if_pos hN]
          rfl
        · rw [ha] at hc'
          unfold allGoF at hc'
          rw [if_pos hN] at hc'
          cases hc'
      · rw [decide_eq_true hN]
        obtain ⟨hW, hWl⟩ := W1 hN
        have hWl : (wayR T n rs w).length ≤ 8 := hWl
        have hEle : EAw T n rs 99 w (Nto n w) ≤ 10400 := by
          rcases E1.le h.2.1 hw hat.2.1 with e | e
          · exact absurd e hN
          · exact e
        have ha2 : allGoF T n os [] (fun _ => 0) = allGoF T n rest (rs ++ (wayR T n rs w).map (rideOf T w)) (updN c w (EAw T n rs 99 w (Nto n w))) := by
          rw [ha]
          conv => lhs; unfold allGoF
          rw [if_neg hN]
        refine And.intro (fun _ => ?_) (fun q => absurd q (by decide))
        have cO : gI τ 236 (nI pre.length).toNatClampNeg = nI w := gO
        refine mcall (c_goalOf G g l (d+12) _ T n (h.2.2.2.keep S1' rfl) _ w gO hw h.1) (fun r s1 h9 => ?_)
        obtain ⟨rfl, rfl⟩ := h9
        have vG : vp_in (nI (Nto n w)) 9 := vinN (by omega) (by decide)
        have vW : vp_in (gI τ 236 (nI pre.length).toNatClampNeg) 4 := by rw [gO]; exact vinN hw4 (by decide)
        have gg : gI s1 232 (nI (Nto n w)).toNatClampNeg = nI (EAw T n rs 99 w (Nto n w)) := by rw [clN (by omega), M1 _ hat.2.1]
        refine And.intro vG (And.intro vW ?_)
        have S2 : mS [43, 47, 51] [228, 229, 231, 232, 233, 234, 238] s1 (sI s1 238 w (nI (EAw T n rs 99 w (Nto n w)))) := mS.rf.a rfl
        have inner : ∀ (m i : Nat) (τ' : AS), i + m = (wayR T n rs w).length → mS [43, 47, 51] [228, 229, 231, 232, 233, 234, 238] σ τ' → MWay (wayR T n rs w) τ' → MRd (rs ++ ((wayR T n rs w).take i).map (rideOf T w)) τ' → (∀ x ∈ pre ++ [w], gI τ' 238 x = nI (updN c w (EAw T n rs 99 w (Nto n w)) x) ∧ updN c w (EAw T n rs 99 w (Nto n w)) x ≤ 10400) →
            P 31 [some tM, some (iv (nI os.length)), some (iv (nI pre.length)), some (iv (nI w)), some (iv (nI i))] [] τ' := by
          intro m
          induction m with
          | zero =>
            intro i τ' hi hS' hW' hR' hc'
            have ei : i = (wayR T n rs w).length := by omega
            refine hP _ _ _ _ (And.intro (fun _ => ?_) (fun q => absurd (show gI τ' 200 51 ≤ nI i by rw [hW'.1]; exact nI_le (by omega) (by omega)) q))
            show P 5 [some tM, some (iv (nI os.length)), some (iv (nI pre.length + nI 1)), some (iv (nI w)), some (iv (nI i))] [] τ'
            rw [nI_add]
            have el : pre.length + 1 = (pre ++ [w]).length := by simp
            rw [el]
            rw [List.take_of_length_le (by omega)] at hR'
            exact ih (pre ++ [w]) _ _ τ' _ _ (by rw [← he]; simp) hS' hR' (by simp; omega) hc' ha2
          | succ m ihm =>
            intro i τ' hi hS' hW' hR' hc'
            have hil : i < (wayR T n rs w).length := by omega
            obtain ⟨y, hy⟩ : ∃ y, (wayR T n rs w)[i]? = some y := ⟨_, List.getElem?_eq_getElem hil⟩
            have hym := List.mem_of_getElem? hy
            have y1 : y.1 < Tns T := wayF_st _ _ y hym
            have y2 : y.2 ≤ 20000 := wayF_hr h.1 (fun q _ => E1.2 q) _ _ y hat.2.1 (by omega) hym
            obtain ⟨g1, g2⟩ := hW'.2 i y hy
            have hlr : (rs ++ ((wayR T n rs w).take i).map (rideOf T w)).length = rs.length + i := by simp; omega
            have e47 : gI τ' 200 47 = nI (rs.length + i) := by rw [hR'.1, hlr]
            have ci : (nI i).toNatClampNeg = i := clN (by omega)
            have v12 : vp_in (nI i) 12 := vinN (by omega) (by decide)
            refine hP _ _ _ _ (And.intro (fun q => absurd q ?_) (fun _ => ?_))
            · show ¬ gI τ' 200 51 ≤ nI i
              rw [hW'.1]; exact nI_ge (by omega) (by omega)
            have i0 : nI 3 * gI τ' 200 47 = nI (3 * (rs.length + i)) := by rw [e47, ix1]
            have vv0 : vp_in (nI 3 * gI τ' 200 47) 200 := by rw [i0]; exact vinN (by omega) (by decide)
            have vv1 : vp_in (nI 3 * gI τ' 200 47 + nI 1) 200 := by rw [i0, nI_add]; exact vinN (by omega) (by decide)
            have vv2 : vp_in (nI 3 * gI τ' 200 47 + nI 2) 200 := by rw [i0, nI_add]; exact vinN (by omega) (by decide)
            refine And.intro v12 (And.intro vv0 (And.intro v12 (And.intro vv1 ?_)))
            have SA : mS [43, 47, 51] [228, 229, 231, 232, 233, 234, 238] σ (sI (sI τ' 231 (nI 3 * gI τ' 200 47).toNatClampNeg (gI τ' 233 (nI i).toNatClampNeg)) 231 (nI 3 * gI τ' 200 47 + nI 1).toNatClampNeg (gI τ' 234 (nI i).toNatClampNeg)) := (hS'.a rfl).a rfl
            refine mcall (c_broadOf G g l (d+12) _ T (h.2.2.1.keep SA rfl) _ w rfl hw h.1) (fun r s3 h9 => ?_)
            obtain ⟨rfl, rfl⟩ := h9
            refine And.intro vv2 ?_
            show P 31 [some tM, some (iv (nI os.length)), some (iv (nI pre.length)), some (iv (nI w)), some (iv (nI i + nI 1))] [] (sI (sI (sI (sI τ' 231 (nI 3 * gI τ' 200 47).toNatClampNeg (gI τ' 233 (nI i).toNatClampNeg)) 231 (nI 3 * gI τ' 200 47 + nI 1).toNatClampNeg (gI τ' 234 (nI i).toNatClampNeg)) 231 (nI 3 * gI τ' 200 47 + nI 2).toNatClampNeg (nI (Tbr T w))) 200 47 (gI τ' 200 47 + nI 1))
            rw [i0, ci, g1, g2, e47, nI_add, nI_add, nI_add, nI_add, clN (show 3 * (rs.length + i) < 2147483648 by omega), clN (show 3 * (rs.length + i) + 1 < 2147483648 by omega), clN (show 3 * (rs.length + i) + 2 < 2147483648 by omega)]
            have hp := hR'.push (r := rideOf T w y) (by omega) (by show y.1 < 12; omega) (by show y.2 ≤ 100000; omega) (by show Tbr T w ≤ 99; omega)
            rw [hlr] at hp
            refine ihm (i+1) _ (by omega) ((((hS'.a rfl).a rfl).a rfl).f rfl) ?_ ?_ ?_
            · refine ⟨?_, fun k z hz => ?_⟩
              · simp only [gI_sI]
                rw [if_neg (by omega), if_neg (by omega), if_neg (by omega), if_neg (by omega)]
                exact hW'.1
              · simp only [gI_sI]
                rw [if_neg (by omega), if_neg (by omega), if_neg (by omega), if_neg (by omega), if_neg (by omega), if_neg (by omega), if_neg (by omega), if_neg (by omega)]
                exact hW'.2 k z hz
            · rw [List.take_succ, hy]
              rw [show (rs ++ List.map (rideOf T w) (List.take i (wayR T n rs w) ++ (some y).toList)) = (rs ++ List.map (rideOf T w) (List.take i (wayR T n rs w))) ++ [rideOf T w y] by simp]
              exact hp
            · intro x hx
              simp only [gI_sI]
              rw [if_neg (by omega), if_neg (by omega), if_neg (by omega), if_neg (by omega)]
              exact hc' x hx
        show P 31 [some tM, some (iv (nI os.length)), some (iv (nI pre.length)), some (iv (gI τ 236 (nI pre.length).toNatClampNeg)), some (iv (nI 0))] [] (sI s1 238 (gI τ 236 (nI pre.length).toNatClampNeg).toNatClampNeg (gI s1 232 (nI (Nto n w)).toNatClampNeg))
        rw [gO, gg, clN (show w < 2147483648 by omega)]
        refine inner (wayR T n rs w).length 0 _ (by omega) (S1'.tr S2) (hW.keep (mS.rf.a (fs := []) (ids := [238]) rfl) rfl rfl) ?_ ?_
        · simp only [List.take_zero, List.map_nil, List.append_nil]
          exact (hR.keep S1 rfl rfl).keep (mS.rf.a (fs := []) (ids := [238]) rfl) rfl rfl
        · intro x hx
          rw [gI_sI]
          unfold updN
          by_cases e : x = w
          · rw [if_pos ⟨rfl, e⟩, if_pos e]; exact ⟨rfl, hEle⟩
          · rw [if_neg (fun q => e q.2), if_neg e]
            have hxp : x ∈ pre := by
              rcases List.mem_append.mp hx with q | q
              · exact q
              · exact absurd (by simpa using q) e
            rw [S1.ia 238 rfl rfl]
            exact hc x hxp
  refine hP _ _ _ _ ?_
  have S0 : mS [43, 47, 51] [228, 229, 231, 232, 233, 234, 238] σ (sI σ 200 47 (nI 0)) := mS.rf.f rfl
  exact key os [] [] (fun _ => 0) _ none none rfl S0 ⟨rfl, by simp, fun k r hr => by simp at hr⟩ (by simp) (fun w hw => by simp at hw) rfl
/-- the best of the orders so far -/
def MBe (k : Nat) (b : Best) (σ : AS) : Prop := match b with
  | none => gI σ 200 57 = nI 1000000 ∧ gI σ 200 58 = nI 0
  | some x => gI σ 200 57 = nI x.1 ∧ gI σ 200 58 = nI x.2.1 ∧ x.1 ≤ 20000 ∧ x.2.1 ≤ 200000 ∧ ∀ i, i < k → gI σ 237 i = nI (x.2.2.1.getD i 0) ∧ gI σ 239 i = nI (x.2.2.2 i)
theorem MBe.keep {fs ids : List Nat} {k : Nat} {b : Best} {σ s : AS} (h : MBe k b σ) (hS : mS fs ids σ s) (h1 : (ids.contains 237 || ids.contains 239 || ids.contains 200) = false) (h2 : (fs.contains 57 || fs.contains 58) = false) : MBe k b s := by
  simp only [Bool.or_eq_false_iff] at h1 h2
  have e0 : ∀ k, gI s 237 k = gI σ 237 k := hS.ia 237 h1.1.1 rfl
  have e1 : ∀ k, gI s 239 k = gI σ 239 k := hS.ia 239 h1.1.2 rfl
  have e2 : gI s 200 57 = gI σ 200 57 := hS.i 200 57 h1.2 (by rw [h2.1]; rfl)
  have e3 : gI s 200 58 = gI σ 200 58 := hS.i 200 58 h1.2 (by rw [h2.2]; rfl)
  unfold MBe at h ⊢
  simp only [e0, e1, e2, e3]
  exact h
theorem lastF_le {c : Nat → Nat} {k : Nat} (h : ∀ w, w < k → c w ≤ 10400) : ∀ m, m ≤ k → lastF c m ≤ 10400 ∧ sumF c m ≤ 10400 * m
  | 0, _ => by simp [lastF, sumF]
  | m+1, hm => by
    have := lastF_le h m (by omega)
    have := h m (by omega)
    unfold lastF sumF
    constructor
    · split <;> omega
    · omega
set_option maxHeartbeats 2000000 in
theorem c_weighs (x : Int32) (k : Nat) (os : List Nat) (c : Nat → Nat) (b : Best) (hx : x = nI k) (hk : k ≤ 4) (hl : os.length = k) (hO : MOr os σ) (hc : ∀ w, w < k → gI σ 238 w = nI (c w) ∧ c w ≤ 10400) (hB : MBe k b σ) :
    MC G g l (d+1) mX6_weighs [tM, iv x] σ (fun r t => r = none ∧ mS [57, 58] [237, 239] σ t ∧ MBe k (weigh1 k b os c) t) := by
  subst hx
  have hle : ∀ m, m ≤ k → lastF c m ≤ 10400 ∧ sumF c m ≤ 10400 * m := lastF_le (fun w hw => (hc w hw).2)
  have hlk := hle k (Nat.le_refl _)
  refine MC1 tX6_weighs [6, 20, 41, 42, 50] rfl okX6_weighs rfl rfl rfl rfl (fun P hP => ?_)
  have at50 : ∀ (m i : Nat) (τ : AS), i + m = k → mS [57, 58] [237, 239] σ τ → gI τ 200 57 = nI (lastF c k) → gI τ 200 58 = nI (sumF c k) → (∀ j, j < i → gI τ 237 j = nI (os.getD j 0) ∧ gI τ 239 j = nI (c j)) → weigh1 k b os c = some (lastF c k, sumF c k, os, c) →
      P 50 [some tM, some (iv (nI k)), some (iv (nI (lastF c k))), some (iv (nI (sumF c k))), some (iv (nI i))] [] τ := by
    intro m
    induction m with
    | zero =>
      intro i τ hi hS e57 e58 hall hw
      refine hP _ _ _ _ (And.intro (fun _ => ⟨rfl, hS, ?_⟩) (fun q => absurd (nI_le (by omega) (by omega)) q))
      rw [hw]
      exact ⟨e57, e58, by show lastF c k ≤ 20000; omega, by show sumF c k ≤ 200000; omega, fun j hj => hall j (by omega)⟩
    | succ m ih =>
      intro i τ hi hS e57 e58 hall hw
      have ci : (nI i).toNatClampNeg = i := clN (by omega)
      have v4 : vp_in (nI i) 4 := vinN (by omega) (by decide)
      refine hP _ _ _ _ (And.intro (fun q => absurd q (nI_ge (by omega) (by omega))) (fun _ => And.intro v4 (And.intro v4 (And.intro v4 (And.intro v4 ?_)))))
      show P 50 [some tM, some (iv (nI k)), some (iv (nI (lastF c k))), some (iv (nI (sumF c k))), some (iv (nI i + nI 1))] [] (sI (sI τ 237 (nI i).toNatClampNeg (gI τ 236 (nI i).toNatClampNeg)) 239 (nI i).toNatClampNeg (gI τ 238 (nI i).toNatClampNeg))
      rw [nI_add, ci]
      refine ih (i+1) _ (by omega) ((hS.a rfl).a rfl) ?_ ?_ (fun j hj => ?_) hw
      · simp only [gI_sI]; rw [if_neg (by omega), if_neg (by omega)]; exact e57
      · simp only [gI_sI]; rw [if_neg (by omega), if_neg (by omega)]; exact e58
      · simp only [gI_sI]
        have ho : gI τ 236 i = nI (os.getD i 0) := by
          rw [hS.ia 236 rfl rfl]
          exact hO i _ (by rw [List.getElem?_eq_getElem (by omega)]; simp [List.getD, List.getElem?_eq_getElem (show i < os.length by omega)])
        have hcc : gI τ 238 i = nI (c i) := by rw [hS.ia 238 rfl rfl]; exact (hc i (by omega)).1
        by_cases e : j = i
        · subst e
          rw [if_neg (by omega), if_pos (by simp), if_pos (by simp)]
          exact ⟨ho, hcc⟩
        · rw [if_neg (by omega), if_neg (by omega), if_neg (by omega)]
          exact hall j (by omega)
  have at42 : weigh1 k b os c = some (lastF c k, sumF c k, os, c) → P 42 [some tM, some (iv (nI k)), some (iv (nI (lastF c k))), some (iv (nI (sumF c k))), some (iv (nI k))] [] σ := by
    intro hw
    refine hP _ _ _ _ ?_
    exact at50 k 0 _ (by omega) ((mS.rf.f rfl).f rfl) (by simp only [gI_sI]; rw [if_neg (by omega), if_pos (by simp)]) (by simp only [gI_sI]; rw [if_pos (by simp)]) (fun j hj => absurd hj (Nat.not_lt_zero _)) hw
  have at41 : weigh1 k b os c = b → P 41 [some tM, some (iv (nI k)), some (iv (nI (lastF c k))), some (iv (nI (sumF c k))), some (iv (nI k))] [] σ := by
    intro hw
    refine hP _ _ _ _ ⟨rfl, mS.rf, ?_⟩
    rw [hw]; exact hB
  have at6 : ∀ (m i : Nat), i + m = k → P 6 [some tM, some (iv (nI k)), some (iv (nI (lastF c i))), some (iv (nI (sumF c i))), some (iv (nI i))] [] σ := by
    intro m
    induction m with
    | zero =>
      intro i hi
      have ei : i = k := by omega
      subst ei
      refine hP _ _ _ _ (And.intro (fun _ => ?_) (fun q => absurd (nI_le (by omega) (by omega)) q))
      cases b with
      | none =>
        have h57 : gI σ 200 57 = nI 1000000 := hB.1
        refine And.intro (fun q => ?_) (fun _ => And.intro (fun _ => at42 rfl) (fun q => ?_))
        · have q0 : gI σ 200 57 < nI (lastF c i) := q
          rw [h57, nI_ltI (by omega) (by omega)] at q0
          omega
        · have q0 : nI (lastF c i) = gI σ 200 57 := q
          rw [h57, nI_eq (by omega) (by omega)] at q0
          omega
      | some z =>
        obtain ⟨h57, h58, z1, z2, -⟩ := hB
        refine And.intro (fun q => ?_) (fun q => And.intro (fun q2 => ?_) (fun q2 => And.intro (fun q3 => ?_) (fun q3 => ?_)))
        · have q0 : gI σ 200 57 < nI (lastF c i) := q
          rw [h57, nI_ltI (by omega) (by omega)] at q0
          exact at41 (by unfold weigh1; exact if_pos (Or.inl q0))
        · have q0 : ¬ gI σ 200 57 < nI (lastF c i) := q
          rw [h57, nI_ltI (by omega) (by omega)] at q0
          have q1 : ¬ nI (lastF c i) = gI σ 200 57 := q2
          rw [h57, nI_eq (by omega) (by omega)] at q1
          exact at42 (by unfold weigh1; exact if_neg (fun e => by rcases e with e | e; exact q0 e; exact q1 e.1))
        · have q0 : ¬ gI σ 200 57 < nI (lastF c i) := q
          rw [h57, nI_ltI (by omega) (by omega)] at q0
          have q1 : nI (sumF c i) < gI σ 200 58 := q3
          rw [h58, nI_ltI (by omega) (by omega)] at q1
          exact at42 (by unfold weigh1; exact if_neg (fun e => by rcases e with e | e; exact q0 e; have := e.2; omega))
        · have q1 : nI (lastF c i) = gI σ 200 57 := q2
          rw [h57, nI_eq (by omega) (by omega)] at q1
          have q0 : ¬ nI (sumF c i) < gI σ 200 58 := q3
          rw [h58, nI_ltI (by omega) (by omega)] at q0
          exact at41 (by unfold weigh1; exact if_pos (Or.inr ⟨q1, by omega⟩))
    | succ m ih =>
      intro i hi
      have hi2 := hle i (by omega)
      obtain ⟨g1, g2⟩ := hc i (by omega)
      have ci : (nI i).toNatClampNeg = i := clN (by omega)
      have v4 : vp_in (nI i) 4 := vinN (by omega) (by decide)
      have gc : gI σ 238 (nI i).toNatClampNeg = nI (c i) := by rw [ci, g1]
      have at20 : ∀ u : Int32, u = nI (lastF c (i+1)) → P 20 [some tM, some (iv (nI k)), some (iv u), some (iv (nI (sumF c i))), some (iv (nI i))] [] σ := by
        intro u hu
        subst hu
        refine hP _ _ _ _ (And.intro v4 ?_)
        show P 6 [some tM, some (iv (nI k)), some (iv (nI (lastF c (i+1)))), some (iv (nI (sumF c i) + gI σ 238 (nI i).toNatClampNeg)), some (iv (nI i + nI 1))] [] σ
        rw [gc, nI_add, nI_add]
        exact ih (i+1) (by omega)
      refine hP _ _ _ _ (And.intro (fun q => absurd q (nI_ge (by omega) (by omega))) (fun _ => And.intro v4 (And.intro (fun q => ?_) (fun q => And.intro v4 ?_))))
      · have q0 : gI σ 238 (nI i).toNatClampNeg ≤ nI (lastF c i) := q
        rw [gc, nI_leI (by omega) (by omega)] at q0
        exact at20 _ (by show nI (lastF c i) = nI (if lastF c i < c i then c i else lastF c i); rw [if_neg (by omega)])
      · have q0 : ¬ gI σ 238 (nI i).toNatClampNeg ≤ nI (lastF c i) := q
        rw [gc, nI_leI (by omega) (by omega)] at q0
        refine at20 (gI σ 238 (nI i).toNatClampNeg) ?_
        rw [gc]
        show nI (c i) = nI (if lastF c i < c i then c i else lastF c i)
        rw [if_pos (by omega)]
  refine hP _ _ _ _ ?_
  exact at6 k 0 (by omega)
end RW_
