section MG
variable (G : CX) (g : GX) (l : Launch) (d : Nat) (σ : AS)
theorem ix1 (a b : Nat) : nI a * nI b = nI (a * b) := pk_mul a b
set_option maxHeartbeats 1000000 in
theorem c_crowdIn (T : Twn) (h : MTn T σ) (hT : TOK T) (rs : List Ride) (hR : MRd rs σ) (x y : Int32) (s hr : Nat) (hx : x = nI s) (hy : y = nI hr) (hs : s < Tns T) (h1 : hr ≤ 1000000) :
    MC G g l (d+2) mX6_crowdIn [tM, iv x, iv y] σ (fun r t => r = some (iv (nI (crowd T rs s hr))) ∧ t = σ) := by
  subst hx; subst hy
  have h12 := hT.1
  have ht := (hT.2.1 s hs).2.2.2.1
  have h61 := hR.2.1
  refine MC1 tX6_crowdIn [4, 51] rfl okX6_crowdIn rfl rfl rfl rfl (fun P hP => ?_)
  have key : ∀ (m k : Nat), rs.length - k = m → k ≤ rs.length → P 4 [some tM, some (iv (nI s)), some (iv (nI hr)), some (iv (nI (crowd T (rs.take k) s hr))), some (iv (nI k))] [] σ := by
    intro m
    induction m with
    | zero =>
      intro k hm hk
      refine hP _ _ _ _ (And.intro (fun _ => ⟨?_, rfl⟩) (fun q => ?_))
      · rw [show rs.take k = rs from List.take_of_length_le (by omega)]
      · exact absurd (show gI σ 200 47 ≤ nI k by rw [hR.1]; exact nI_le (by omega) (by omega)) q
    | succ m ih =>
      intro k hm hk
      have hkl : k < rs.length := by omega
      obtain ⟨r, hr9⟩ : ∃ r, rs[k]? = some r := ⟨_, List.getElem?_eq_getElem hkl⟩
      obtain ⟨⟨r0, r1, r2⟩, r3, r4, r5⟩ := hR.2.2 k r hr9
      have h60 := hR.2.1
      have hle := crowd_le T (rs.take k) s hr (fun q hq => hR.mem q (List.mem_of_mem_take hq))
      rw [List.length_take] at hle
      have a0 : gI σ 231 (nI 3 * nI k).toNatClampNeg = nI r.1 := by rw [ix1, clN (by omega), r0]
      have a1 : gI σ 231 (nI 3 * nI k + nI 1).toNatClampNeg = nI r.2.1 := by rw [ix1, nI_add, clN (by omega), r1]
      have a2 : gI σ 231 (nI 3 * nI k + nI 2).toNatClampNeg = nI r.2.2 := by rw [ix1, nI_add, clN (by omega), r2]
      have v0 : vp_in (nI 3 * nI k) 200 := by rw [ix1]; exact vinN (by omega) (by decide)
      have v1 : vp_in (nI 3 * nI k + nI 1) 200 := by rw [ix1, nI_add]; exact vinN (by omega) (by decide)
      have v2 : vp_in (nI 3 * nI k + nI 2) 200 := by rw [ix1, nI_add]; exact vinN (by omega) (by decide)
      have next : ∀ v : Int32, v = nI (crowd T (rs.take k) s hr + rideIn T s hr r) → P 51 [some tM, some (iv (nI s)), some (iv (nI hr)), some (iv v), some (iv (nI k))] [] σ := by
        intro v hv
        subst hv
        rw [← crowd_take T rs s hr k r hr9]
        refine hP _ _ _ _ ?_
        show P 4 [some tM, some (iv (nI s)), some (iv (nI hr)), some (iv (nI (crowd T (rs.take (k+1)) s hr))), some (iv (nI k + nI 1))] [] σ
        rw [nI_add]
        exact ih (k+1) (by omega) (by omega)
      have no : ¬ (r.1 = s ∧ r.2.1 ≤ hr ∧ hr < r.2.1 + Ttk T s) → P 51 [some tM, some (iv (nI s)), some (iv (nI hr)), some (iv (nI (crowd T (rs.take k) s hr))), some (iv (nI k))] [] σ := by
        intro q
        exact next _ (by unfold rideIn; rw [if_neg q]; rfl)
      refine hP _ _ _ _ (And.intro (fun q => ?_) (fun _ => And.intro v0 (And.intro (fun q => no ?_) (fun q => And.intro v1 (And.intro (fun q2 => no ?_) (fun q2 => And.intro v1 ?_))))))
      · exact absurd q (show ¬ gI σ 200 47 ≤ nI k by rw [hR.1]; exact nI_ge (by omega) (by omega))
      · have q : ¬ gI σ 231 (nI 3 * nI k).toNatClampNeg = nI s := q
        rw [a0, nI_eq (by omega) (by omega)] at q
        exact fun e => q e.1
      · have q2 : nI hr < gI σ 231 (nI 3 * nI k + nI 1).toNatClampNeg := q2
        rw [a1, nI_ltI (by omega) (by omega)] at q2
        omega
      · refine mcall (c_takesOf G g l d σ T h _ s rfl hs hT) (fun r9 s' h9 => ?_)
        obtain ⟨rfl, rfl⟩ := h9
        have q : gI s' 231 (nI 3 * nI k).toNatClampNeg = nI s := q
        rw [a0, nI_eq (by omega) (by omega)] at q
        have q2 : ¬ nI hr < gI s' 231 (nI 3 * nI k + nI 1).toNatClampNeg := q2
        rw [a1, nI_ltI (by omega) (by omega)] at q2
        refine And.intro (fun q3 => no ?_) (fun q3 => And.intro v2 ?_)
        · have q3 : gI s' 231 (nI 3 * nI k + nI 1).toNatClampNeg + nI (Ttk T s) ≤ nI hr := q3
          rw [a1, nI_add, nI_leI (by omega) (by omega)] at q3
          omega
        · have q3 : ¬ gI s' 231 (nI 3 * nI k + nI 1).toNatClampNeg + nI (Ttk T s) ≤ nI hr := q3
          rw [a1, nI_add, nI_leI (by omega) (by omega)] at q3
          refine next (nI (crowd T (rs.take k) s hr) + gI s' 231 (nI 3 * nI k + nI 2).toNatClampNeg) ?_
          rw [a2, nI_add]
          unfold rideIn
          rw [if_pos ⟨q, by omega, by omega⟩]
  refine hP _ _ _ _ ?_
  exact key rs.length 0 rfl (Nat.zero_le _)
set_option maxHeartbeats 1000000 in
theorem c_isFree (T : Twn) (n : Nws) (h : TN T n σ) (rs : List Ride) (hR : MRd rs σ) (x y z : Int32) (s b hr : Nat) (hx : x = nI s) (hy : y = nI b) (hz : z = nI hr) (hs : s < Tns T) (hb : b ≤ 1000) (h1 : hr ≤ 900000) :
    MC G g l (d+8) mX6_isFree [tM, iv x, iv y, iv z] σ (fun r t => r = some (iv (bI (freeF T n rs s b hr))) ∧ mS [43] [228, 229] σ t) := by
  subst hx; subst hy; subst hz
  have ht := (h.1.2.1 s hs).2.2.2.1
  have h60 := hR.2.1
  refine MC1 tX6_isFree [11] rfl okX6_isFree rfl rfl rfl rfl (fun P hP => ?_)
  have key : ∀ (m k : Nat) (τ : AS), Ttk T s - k = m → k ≤ Ttk T s → mS [43] [228, 229] σ τ → (∀ j, j < k → b + crowd T rs s (hr + j) ≤ wid T s (Nsh n s) (hr + j)) → P 11 [some tM, some (iv (nI s)), some (iv (nI b)), some (iv (nI hr)), some (iv (nI k))] [] τ := by
    intro m
    induction m with
    | zero =>
      intro k τ hm hk hS hall
      refine hP _ _ _ _ ?_
      refine mcall (c_takesOf G g l (d+6) τ T (h.2.2.1.keep hS rfl) _ s rfl hs h.1) (fun r9 s' h9 => ?_)
      obtain ⟨rfl, rfl⟩ := h9
      refine And.intro (fun _ => ⟨nar1, ?_, hS⟩) (fun q => absurd (nI_le (by omega) (by omega)) q)
      have : freeF T n rs s b hr = true := by
        unfold freeF
        rw [List.all_eq_true]
        intro j hj
        have := List.mem_range.mp hj
        exact decide_eq_true (hall j (by omega))
      rw [this]; rfl
    | succ m ih =>
      intro k τ hm hk hS hall
      refine hP _ _ _ _ ?_
      refine mcall (c_takesOf G g l (d+6) τ T (h.2.2.1.keep hS rfl) _ s rfl hs h.1) (fun r9 s' h9 => ?_)
      obtain ⟨rfl, rfl⟩ := h9
      refine And.intro (fun q => absurd q (nI_ge (by omega) (by omega))) (fun _ => ?_)
      refine mcall (c_widthOf G g l (d+2) _ T n (h.keep hS rfl rfl) _ _ s (hr + k) rfl (nI_add _ _) hs (by omega)) (fun r9 s2 h9 => ?_)
      obtain ⟨rfl, h9⟩ := h9
      have hS2 := hS.tr h9
      refine mcall (c_crowdIn G g l (d+5) s2 T (h.2.2.1.keep hS2 rfl) h.1 rs (hR.keep hS2 rfl rfl) _ _ s (hr + k) rfl (nI_add _ _) hs (by omega)) (fun r9 s3 h8 => ?_)
      obtain ⟨rfl, rfl⟩ := h8
      have hw := wid_le T s (Nsh n s) (hr + k)
      have hc := crowd_le T rs s (hr + k) hR.mem
      refine And.intro (fun q => ?_) (fun q => ⟨nar0, ?_, hS2⟩)
      · have q := (le_sub2 (by omega) (by omega) (by omega)).mp q
        show P 11 [some tM, some (iv (nI s)), some (iv (nI b)), some (iv (nI hr)), some (iv (nI k + nI 1))] [] s3
        rw [nI_add]
        refine ih (k+1) s3 (by omega) (by omega) hS2 (fun j hj => ?_)
        by_cases e : j = k
        · rw [e]; exact q
        · exact hall j (by omega)
      · have q : ¬ b + crowd T rs s (hr + k) ≤ wid T s (Nsh n s) (hr + k) := fun q2 => q ((le_sub2 (by omega) (by omega) (by omega)).mpr q2)
        have : freeF T n rs s b hr = false := by
          rw [Bool.eq_false_iff]
          intro hh
          have := List.all_eq_true.mp hh k (List.mem_range.mpr (by omega))
          exact q (of_decide_eq_true this)
        rw [this]; rfl
  refine hP _ _ _ _ (And.intro (fun _ => ?_) (fun q => ?_))
  · exact key (Ttk T s) 0 σ rfl (Nat.zero_le _) mS.rf (fun j hj => absurd hj (Nat.not_lt_zero j))
  · have q : gI σ 200 47 = nI 0 := q
    rw [hR.1, nI_eq (by omega) (by omega)] at q
    have hrs : rs = [] := List.length_eq_zero_iff.mp q
    subst hrs
    refine mcall (c_isPassed G g l d σ T n h _ _ _ s b hr rfl rfl rfl hs hb h1) (fun r9 s' h9 => ?_)
    obtain ⟨rfl, h9⟩ := h9
    rw [free_nil]
    exact ⟨nar_bI _, rfl, h9⟩
theorem c_taken (T : Twn) (n : Nws) (h : TN T n σ) (rs : List Ride) (hR : MRd rs σ) (x y z u : Int32) (s b hr lp : Nat) (hx : x = nI s) (hy : y = nI b) (hz : z = nI hr) (hu : u = nI lp - nI 1) (hs : s < Tns T) (hb : b ≤ 1000) (h1 : hr ≤ 900000) (h2 : lp ≤ 900000) :
    MC G g l (d+9) mX6_taken [tM, iv x, iv y, iv z, iv u] σ (fun r t => r = some (iv (nI (tk1 T n rs s b hr lp))) ∧ mS [43] [228, 229] σ t) := by
  subst hx; subst hy; subst hz; subst hu
  have ht := (h.1.2.1 s hs).2.2.2.1
  refine MC1 tX6_taken [2] rfl okX6_taken rfl rfl rfl rfl (fun P hP => ?_)
  have key : ∀ (m k : Nat) (τ : AS), lp - k ≤ m → hr ≤ k → k ≤ 900000 → mS [43] [228, 229] σ τ → tk1 T n rs s b hr lp = tk1 T n rs s b k lp → P 2 [some tM, some (iv (nI s)), some (iv (nI b)), some (iv (nI hr)), some (iv (nI lp - nI 1)), some (iv (nI k))] [] τ := by
    intro m
    induction m with
    | zero =>
      intro k τ hm hk hk9 hS he
      refine hP _ _ _ _ ?_
      refine mcall (c_takesOf G g l (d+7) τ T (h.2.2.1.keep hS rfl) _ s rfl hs h.1) (fun r9 s' h9 => ?_)
      obtain ⟨rfl, rfl⟩ := h9
      refine And.intro (fun _ => ⟨?_, hS⟩) (fun q => ?_)
      · rw [he, tk1_out T n rs s b k lp (by omega)]; rfl
      · have q := Int32.not_lt.mp q
        rw [nI_add, le_pred (by omega) (by omega)] at q
        omega
    | succ m ih =>
      intro k τ hm hk hk9 hS he
      refine hP _ _ _ _ ?_
      refine mcall (c_takesOf G g l (d+7) τ T (h.2.2.1.keep hS rfl) _ s rfl hs h.1) (fun r9 s' h9 => ?_)
      obtain ⟨rfl, rfl⟩ := h9
      refine And.intro (fun q => ⟨?_, hS⟩) (fun q => ?_)
      · have q := Int32.not_le.mpr q
        rw [nI_add, le_pred (by omega) (by omega)] at q
        rw [he, tk1_out T n rs s b k lp q]; rfl
      · have q := Int32.not_lt.mp q
        rw [nI_add, le_pred (by omega) (by omega)] at q
        refine mcall (c_isFree G g l d _ T n (h.keep hS rfl rfl) rs (hR.keep hS rfl rfl) _ _ _ s b k rfl rfl rfl hs hb hk9) (fun r9 s2 h9 => ?_)
        obtain ⟨rfl, h9⟩ := h9
        have hS2 := hS.tr h9
        cases hf : freeF T n rs s b k with
        | true =>
          refine And.intro (fun q2 => absurd q2 (by decide)) (fun q2 => ⟨?_, hS2⟩)
          rw [he, tk1_here T n rs s b k lp ht.1 q hf]
        | false =>
          refine And.intro (fun q2 => ?_) (fun q2 => absurd rfl q2)
          show P 2 [some tM, some (iv (nI s)), some (iv (nI b)), some (iv (nI hr)), some (iv (nI lp - nI 1)), some (iv (nI k + nI 1))] [] s2
          rw [nI_add]
          exact ih (k+1) s2 (by omega) (by omega) (by omega) hS2 (by rw [he, tk1_step T n rs s b k lp ht.1 q hf])
  refine hP _ _ _ _ ?_
  exact key (lp - hr) hr σ (Nat.le_refl _) (Nat.le_refl _) h1 mS.rf rfl
end MG
