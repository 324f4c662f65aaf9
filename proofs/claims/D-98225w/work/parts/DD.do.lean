def XRe (T : Twn) (R : Nat → Nat → Int32) (σ : AS) : Prop := ∀ p, p < Tnp T → ∀ k, k < 24 → gI σ (68 + p) k = R p k
theorem kd_inT {σ : AS} {k : Nat} (h : k < 9) : kd true σ (68 + k) = (5, 24) := by
  have h1 : ∀ k : Fin 9, fixK (68 + k.val) = (5, 24) := by decide
  have h2 : Nat.ble NF (68 + k) = false := by
    cases hh : Nat.ble NF (68 + k) with
    | false => rfl
    | true => have h3 : 268 ≤ 68 + k := Nat.le_of_ble_eq_true hh; omega
  unfold kd
  rw [h2]
  exact h1 ⟨k, h⟩
def srvI (o : Option (List Nat)) : Int32 := match o with
  | none => - nI 1
  | some l => setI l
section DD_
variable (G : CX) (g : GX) (l : Launch) (d : Nat)
set_option maxHeartbeats 1000000 in
theorem x_areServed (σ : AS) (T : Twn) (h : XTn T σ) (hT : TOK T) (R : Nat → Nat → Int32) (hR : XRe T R σ) (z : Int32) (pre : List Nat) (hz : ∀ p, p < Tnp T → hasB z p = decide (p ∈ pre)) : MC G g l (d+3) mX0_areServed [tX, iv z] σ (fun r t => r = some (iv (bI (svd T R pre))) ∧ t = σ) := by
  have h12 := hT.1
  refine MC1 tX0_areServed [2, 9, 23, 26] rfl okX0_areServed rfl rfl rfl rfl (fun P hP => hP _ _ _ _ ?_)
  have hours : ∀ (m k : Nat) (o3 o4 : Option AV), k + m = 24 → svd T R pre = allR (fun k => decide (orR (fun p => if p ∈ pre then R p k else nI 0) (Tnp T) = (nI 1 <<< (nI (Tnp T) &&& 31)) - nI 1)) m k → P 2 [some tX, some (iv z), some (iv (nI k)), o3, o4] [] σ := by
    intro m
    induction m with
    | zero =>
      intro k o3 o4 hm he
      exact hP _ _ _ _ (And.intro (fun _ => ⟨nar1, by rw [he]; rfl, rfl⟩) (fun q => absurd (nI_le (by omega) (by omega)) q))
    | succ m ih =>
      intro k o3 o4 hm he
      have he : svd T R pre = (decide (orR (fun p => if p ∈ pre then R p k else nI 0) (Tnp T) = (nI 1 <<< (nI (Tnp T) &&& 31)) - nI 1) && allR (fun k => decide (orR (fun p => if p ∈ pre then R p k else nI 0) (Tnp T) = (nI 1 <<< (nI (Tnp T) &&& 31)) - nI 1)) m (k+1)) := he
      have places : ∀ (j p : Nat), p + j = Tnp T → P 9 [some tX, some (iv z), some (iv (nI k)), some (iv (orR (fun p => if p ∈ pre then R p k else nI 0) p)), some (iv (nI p))] [] σ := by
        intro j
        induction j with
        | zero =>
          intro p hp
          have ep : p = Tnp T := by omega
          subst ep
          refine hP _ _ _ _ ?_
          refine mcall (x_placeMany G g l d σ T h) (fun r s1 h9 => ?_)
          obtain ⟨rfl, e9⟩ := h9
          subst e9
          refine And.intro (fun _ => ?_) (fun q => absurd (Int32.le_refl _) q)
          refine mcall (x_placeMany G g l d s1 T h) (fun r s2 h9 => ?_)
          obtain ⟨rfl, e9⟩ := h9
          subst e9
          refine And.intro (fun q => ?_) (fun q => ⟨nar0, ?_, rfl⟩)
          · show P 2 [some tX, some (iv z), some (iv (nI k + nI 1)), some (iv (orR (fun p => if p ∈ pre then R p k else nI 0) (Tnp T))), some (iv (nI (Tnp T)))] [] s2
            rw [nI_add]
            exact ih (k+1) _ _ (by omega) (by rw [he, decide_eq_true q]; rfl)
          · rw [he, decide_eq_false q]; rfl
        | succ j ihj =>
          intro p hp
          have hpn : p < Tnp T := by omega
          have cp : (nI p).toNatClampNeg = p := clN (by omega)
          have next : ∀ v : Int32, v = (if p ∈ pre then R p k else nI 0) → P 26 [some tX, some (iv z), some (iv (nI k)), some (iv (orR (fun p => if p ∈ pre then R p k else nI 0) p)), some (iv (nI p))] [iv v, iv (orR (fun p => if p ∈ pre then R p k else nI 0) p)] σ := by
            intro v hv
            refine hP _ _ _ _ ?_
            show P 9 [some tX, some (iv z), some (iv (nI k)), some (iv (orR (fun p => if p ∈ pre then R p k else nI 0) p ||| v)), some (iv (nI p + nI 1))] [] σ
            rw [nI_add, hv]
            exact ihj (p+1) (by omega)
          refine hP _ _ _ _ ?_
          refine mcall (x_placeMany G g l d σ T h) (fun r s1 h9 => ?_)
          obtain ⟨rfl, e9⟩ := h9
          subst e9
          refine And.intro (fun q => absurd q (nI_ge (by omega) (by omega))) (fun _ => ?_)
          refine mcall (x_has G g l (d+1) s1 z p _ rfl) (fun r s2 h9 => ?_)
          obtain ⟨rfl, e9⟩ := h9
          subst e9
          rw [hz p hpn]
          by_cases hm : p ∈ pre
          · rw [decide_eq_true hm]
            refine And.intro (fun q => absurd q (by decide)) (fun _ => And.intro (show vp_in (nI p) 9 from vinN (by omega) (by decide)) ?_)
            show P 23 [some tX, some (iv z), some (iv (nI k)), some (iv (orR (fun p => if p ∈ pre then R p k else nI 0) p)), some (iv (nI p))] [iv (nI k), rf (68 + (nI p).toNatClampNeg), iv (orR (fun p => if p ∈ pre then R p k else nI 0) p)] s2
            rw [cp]
            refine hP _ _ _ _ ?_
            refine grd (b := Nat.beq (kd true s2 (68 + p)).1 5) (by rw [kd_inT (by omega)]; rfl) ?_
            refine And.intro (show vp_in (nI k) (kd true s2 (68 + p)).2 by rw [kd_inT (by omega)]; exact vinN (by show k < 24; omega) (by decide)) ?_
            exact next _ (by rw [if_pos hm]; show gI s2 (68 + p) (nI k).toNatClampNeg = _; rw [clN (by omega)]; exact hR p hpn k (by omega))
          · rw [decide_eq_false hm]
            refine And.intro (fun _ => ?_) (fun q => absurd rfl q)
            exact next _ (by rw [if_neg hm])
      refine hP _ _ _ _ (And.intro (fun q => absurd q (nI_ge (by omega) (by omega))) (fun _ => ?_))
      exact places (Tnp T) 0 (by omega)
  exact hours 24 0 _ _ (by omega) rfl
set_option maxHeartbeats 1000000 in
theorem x_serving (T : Twn) (hT : TOK T) (R : Nat → Nat → Int32) : ∀ (m : Nat) (σ : AS) (fr : Nat) (pre : List Nat) (x y z : Int32), XTn T σ → XRe T R σ → m ≤ 3 → fr ≤ 9 → (∀ p ∈ pre, p < 9) → x = nI m → y = nI fr → z = setI pre → MC G g l (d+m+4) mX0_serving [tX, iv x, iv y, iv z] σ (fun r t => r = some (iv (srvI (srvF (svd T R) (Tnp T) m fr pre))) ∧ t = σ) := by
  have h12 := hT.1
  intro m
  induction m with
  | zero =>
    intro σ fr pre x y z h hR hm hfr hp hx hy hz
    subst hx; subst hy; subst hz
    refine MC0 tX0_serving rfl okX0_serving rfl rfl rfl rfl (fun P => And.intro (fun q => absurd rfl q) (fun _ => ?_))
    refine mcall (x_areServed G g l d σ T h hT R hR _ pre (fun p hpn => setI_has (by omega) pre (fun q hq => by have := hp q hq; omega))) (fun r s1 h9 => ?_)
    obtain ⟨rfl, e9⟩ := h9
    subst e9
    have e : srvF (svd T R) (Tnp T) 0 fr pre = if svd T R pre = true then some pre else none := rfl
    cases hs : svd T R pre with
    | true => exact And.intro (fun q => absurd q (by decide)) (fun _ => ⟨by rw [e, hs]; rfl, rfl⟩)
    | false => exact And.intro (fun _ => ⟨by rw [e, hs]; rfl, rfl⟩) (fun q => absurd rfl q)
  | succ m IH =>
    intro σ fr pre x y z h hR hm hfr hp hx hy hz
    subst hx; subst hy; subst hz
    refine MC1 tX0_serving [12, 29] rfl okX0_serving rfl rfl rfl rfl (fun P hP => hP _ _ _ _ ?_)
    refine And.intro (fun _ => ?_) (fun q => absurd (show nI (m+1) = nI 0 from q) (by rw [nI_eq (by omega) (by omega)]; omega))
    have key : ∀ (j p : Nat) (o5 : Option AV), p + j = max fr (Tnp T) → fr ≤ p → srvF (svd T R) (Tnp T) (m+1) fr pre = findF (fun p => srvF (svd T R) (Tnp T) m (p+1) (pre ++ [p])) (Tnp T - p) p → P 12 [some tX, some (iv (nI (m+1))), some (iv (nI fr)), some (iv (setI pre)), some (iv (nI p)), o5] [] σ := by
      intro j
      induction j with
      | zero =>
        intro p o5 hj hfp he
        refine hP _ _ _ _ ?_
        refine mcall (x_placeMany G g l (d+(m+1)+1) σ T h) (fun r s1 h9 => ?_)
        obtain ⟨rfl, e9⟩ := h9
        subst e9
        rw [show Tnp T - p = 0 by omega] at he
        exact And.intro (fun _ => ⟨by rw [he]; rfl, rfl⟩) (fun q => absurd (nI_le (by omega) (by omega)) q)
      | succ j ihj =>
        intro p o5 hj hfp he
        refine hP _ _ _ _ ?_
        refine mcall (x_placeMany G g l (d+(m+1)+1) σ T h) (fun r s1 h9 => ?_)
        obtain ⟨rfl, e9⟩ := h9
        subst e9
        by_cases hpn : Tnp T ≤ p
        · rw [show Tnp T - p = 0 by omega] at he
          exact And.intro (fun _ => ⟨by rw [he]; rfl, rfl⟩) (fun q => absurd (nI_le hpn (by omega)) q)
        · refine And.intro (fun q => absurd q (nI_ge (by omega) (by omega))) (fun _ => ?_)
          refine mcall (IH s1 (p+1) (pre ++ [p]) _ _ _ h hR (by omega) (by omega) (fun q hq => ?_) (show nI (m+1) - nI 1 = nI m from nI_s1 _ _ (by omega)) (nI_add p 1) (setI_snoc pre p).symm) (fun r s2 h9 => ?_)
          · rcases List.mem_append.mp hq with z | z
            · exact hp q z
            · have : q = p := by simpa using z
              omega
          · obtain ⟨rfl, e9⟩ := h9
            subst e9
            obtain ⟨i, hi⟩ : ∃ i, Tnp T - p = i + 1 := ⟨Tnp T - p - 1, by omega⟩
            rw [hi, findF_step] at he
            show P 29 [some tX, some (iv (nI (m+1))), some (iv (nI fr)), some (iv (setI pre)), some (iv (nI p)), o5] [iv (srvI (srvF (svd T R) (Tnp T) m (p+1) (pre ++ [p])))] s2
            cases hr : srvF (svd T R) (Tnp T) m (p+1) (pre ++ [p]) with
            | none =>
              rw [hr] at he
              refine hP _ _ _ _ (And.intro (fun _ => ?_) (fun q => absurd rfl q))
              show P 12 [some tX, some (iv (nI (m+1))), some (iv (nI fr)), some (iv (setI pre)), some (iv (nI p + nI 1)), some (iv (- nI 1))] [] s2
              rw [nI_add]
              exact ihj (p+1) _ (by omega) (by omega) (by rw [he, show Tnp T - (p + 1) = i by omega]; rfl)
            | some l9 =>
              rw [hr] at he
              have hl9 : ∀ q ∈ l9, q ≤ 12 := by
                have key : ∀ (m fr : Nat) (pre l9 : List Nat), (∀ p ∈ pre, p < 9) → fr ≤ 9 → srvF (svd T R) (Tnp T) m fr pre = some l9 → ∀ q ∈ l9, q ≤ 12 := by
                  intro m
                  induction m with
                  | zero =>
                    intro fr pre l9 hp _ hs q hq
                    have hs : (if svd T R pre = true then some pre else none) = some l9 := hs
                    split at hs
                    · cases hs; have := hp q hq; omega
                    · cases hs
                  | succ m ih =>
                    intro fr pre l9 hp hf hs q hq
                    obtain ⟨p, h1, h2, h3⟩ := findF_some _ _ _ _ hs
                    exact ih (p+1) (pre ++ [p]) l9 (fun y hy => by
                      rcases List.mem_append.mp hy with z | z
                      · exact hp y z
                      · have : y = p := by simpa using z
                        omega) (by omega) h3 q hq
                exact key m (p+1) (pre ++ [p]) l9 (fun y hy => by
                  rcases List.mem_append.mp hy with z | z
                  · exact hp y z
                  · have : y = p := by simpa using z
                    omega) (by omega) hr
              refine hP _ _ _ _ (And.intro (fun q => absurd q (setI_ne hl9)) (fun _ => ⟨?_, rfl⟩))
              rw [he]
              rfl
    exact key (max fr (Tnp T) - fr) fr _ (by omega) (Nat.le_refl _) rfl
theorem j_bitCount (σ : AS) (x : Int32) : MC G g l (d+1) mJ16_bitCount [iv x] σ (fun r t => r = some (iv (bcF x)) ∧ t = σ) :=
  MC0 tJ16_bitCount rfl okJ16_bitCount rfl rfl rfl rfl (fun P => ⟨rfl, rfl⟩)
end DD_
