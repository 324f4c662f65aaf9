section MF
variable (G : CX) (g : GX) (l : Launch) (d : Nat) (σ : AS)
theorem getHd {l : List Int} {v : Int} (h : l[0]? = some v) : l.headD 0 = v := by
  cases l with
  | nil => simp at h
  | cons a t => simpa using h
set_option maxHeartbeats 1000000 in
theorem c_widthBy (T : Twn) (h : MTn T σ) (hT : TOK T) (x y z : Int32) (s hr sh : Nat) (hx : x = nI s) (hy : y = nI hr) (hz : z = nI sh) (hs : s < Tns T) (h1 : hr ≤ 1000000) (h2 : sh ≤ 1000) :
    MC G g l (d+4) mX6_widthBy [tM, iv x, iv y, iv z] σ (fun r t => r = some (iv (nI (wid T s sh hr))) ∧ mS [43] [228, 229] σ t) := by
  subst hx; subst hy; subst hz
  have hs12 := hT.1
  have hT2 := hT.2.1 s hs
  refine MC0 tX6_widthBy rfl okX6_widthBy rfl rfl rfl rfl (fun P => ?_)
  refine mcall (c_tideOf G g l (d+1) σ T h hT _ _ _ s hr sh rfl rfl rfl hs h1 h2) (fun r s' h9 => ?_)
  obtain ⟨rfl, rfl⟩ := h9
  refine And.intro (vin 0 4 rfl rfl) ?_
  have S1 : mS [43] [228, 229] s' (sI s' 229 0 (nI ((hr + sh) % Trd T s))) := mS.rf.a rfl
  refine mcall (c_roundOf G g l (d+2) _ T (h.keep S1 rfl) _ s rfl hs hT) (fun r s1 h9 => ?_)
  obtain ⟨rfl, rfl⟩ := h9
  refine And.intro (vin 1 4 rfl rfl) (And.intro (by decide) (And.intro (vin 2 4 rfl rfl) (And.intro (by decide) (And.intro (vin 3 4 rfl rfl) ?_))))
  have S4 : mS [43] [228, 229] s' (sI (sI (sI (sI s' 229 0 (nI ((hr + sh) % Trd T s))) 229 1 (nI (Trd T s))) 229 2 (nI hr - nI hr / nI 24 * nI 24)) 229 3 (nI hr / nI 24)) := (((S1.a rfl).a rfl).a rfl)
  have h4 := h.keep S4 rfl
  obtain ⟨f, f1, f2, f3, f4⟩ := h4.2.2.2.2.2.1 s hs
  have ix : (nI 12 + nI s).toNatClampNeg = 12 + s := by rw [nI_add, clN (by omega)]
  have q24 : nI hr - nI hr / nI 24 * nI 24 = nI (hr % 24) := pk_rem (by omega) (by omega) (by omega)
  have d24 : nI hr / nI 24 = nI (hr / 24) := pk_div (by omega) (by omega) (by omega)
  refine And.intro ?_ (And.intro ?_ ?_)
  · show vp_in (nI 12 + nI s) 24
    rw [nI_add]; exact vinN (by omega) (by decide)
  · show vp_in (nI 12 + nI s) 24
    rw [nI_add]; exact vinN (by omega) (by decide)
  · have hmod : (hr + sh) % Trd T s < Trd T s := Nat.mod_lt _ (by omega)
    have hdiv : hr / 24 ≤ hr := Nat.div_le_self _ _
    refine mcall (c_told G g l d _ (Tcd T s) f _ _ (envW T s sh hr) (by rw [← f1, ← ix]; rfl) (by rw [← f2, ← ix]; rfl) f3 f4 ?_ hT2.2.2.2.2.2) (fun r s2 h9 => ?_)
    · intro i hi
      match i, hi with
      | 0, _ => exact ⟨rfl, by show (hr + sh) % Trd T s ≤ _; omega⟩
      | 1, _ => exact ⟨rfl, by show Trd T s ≤ _; omega⟩
      | 2, _ => exact ⟨q24, by show hr % 24 ≤ _; omega⟩
      | 3, _ => exact ⟨d24, by show hr / 24 ≤ _; omega⟩
    · obtain ⟨⟨v, v1, v2, rfl⟩, hS⟩ := h9
      have SS := S4.tr (hS.mono rfl rfl)
      have hw : wid T s sh hr = clamp99 v := by unfold wid; rw [getHd v1]
      have zv := mid_in v2
      have z0 : inZ 0 := ⟨by omega, by omega⟩
      have z99 : inZ 99 := ⟨by omega, by omega⟩
      unfold mid at v2
      refine And.intro (fun h5 => And.intro (fun h6 => ⟨?_, SS⟩) (fun h6 => ⟨?_, SS⟩)) (fun h5 => ⟨?_, SS⟩)
      · have h5 : 0 ≤ v := (zL_le z0 zv).mp ((lg_cmp_ge _ _).mp h5)
        have h6 : v ≤ 99 := (zL_le zv z99).mp ((lg_cmp_le _ _).mp h6)
        show some (Sum.inl (zL v).toInt32) = _
        rw [hw]
        unfold clamp99
        rw [if_neg (by omega), if_neg (by omega)]
        obtain ⟨n, rfl⟩ : ∃ n : Nat, v = (n : Int) := ⟨v.toNat, by omega⟩
        rw [← lN_zL, lN_i]
        rfl
      · have h5 : 0 ≤ v := (zL_le z0 zv).mp ((lg_cmp_ge _ _).mp h5)
        have h6 : ¬ v ≤ 99 := fun q => h6 ((lg_cmp_le _ _).mpr ((zL_le zv z99).mpr q))
        show some (Sum.inl (nI 99)) = _
        rw [hw]
        unfold clamp99
        rw [if_neg (by omega), if_pos (by omega)]
      · have h5 : ¬ 0 ≤ v := fun q => h5 ((lg_cmp_ge _ _).mpr ((zL_le z0 zv).mpr q))
        show some (Sum.inl (nI 0)) = _
        rw [hw]
        unfold clamp99
        rw [if_pos (by omega)]
theorem TN.sh {T : Twn} {n : Nws} {σ : AS} (h : TN T n σ) {s : Nat} (hs : s < Tns T) : gI σ 230 (1 + s) = nI (Nsh n s) ∧ Nsh n s ≤ 47 := by
  have := (h.1.2.1 s hs).2.2.2.2.1
  have := h.2.1.2.1 s hs
  exact ⟨h.2.2.2.2.1 s hs, by omega⟩
theorem c_widthOf (T : Twn) (n : Nws) (h : TN T n σ) (x y : Int32) (s hr : Nat) (hx : x = nI s) (hy : y = nI hr) (hs : s < Tns T) (h1 : hr ≤ 1000000) :
    MC G g l (d+5) mX6_widthOf [tM, iv x, iv y] σ (fun r t => r = some (iv (nI (wid T s (Nsh n s) hr))) ∧ mS [43] [228, 229] σ t) := by
  subst hx; subst hy
  have := h.1.1
  obtain ⟨e1, e2⟩ := h.sh hs
  refine MC0 tX6_widthOf rfl okX6_widthOf rfl rfl rfl rfl (fun P => ?_)
  refine mcall (c_shiftOf G g l (d+3) σ _ s rfl (by omega)) (fun r s' h9 => ?_)
  obtain ⟨rfl, rfl⟩ := h9
  refine mcall (c_widthBy G g l d _ T h.2.2.1 h.1 _ _ _ s hr (Nsh n s) rfl rfl e1 hs h1 (by omega)) (fun r s' h9 => ?_)
  obtain ⟨rfl, h9⟩ := h9
  exact ⟨rfl, h9⟩
/-- wide enough for hours on -/
def wideF (T : Twn) (n : Nws) (s b hr k : Nat) : Bool := (List.range k).all (fun i => decide (b ≤ wid T s (Nsh n s) (hr + i)))
theorem c_isWide (T : Twn) (n : Nws) (h : TN T n σ) (x y z u : Int32) (s b hr k : Nat) (hx : x = nI s) (hy : y = nI b) (hz : z = nI hr) (hu : u = nI k) (hs : s < Tns T) (hb : b ≤ 1000) (h1 : hr ≤ 900000) (hk : k ≤ 1000) :
    MC G g l (d+6) mX6_isWide [tM, iv x, iv y, iv z, iv u] σ (fun r t => r = some (iv (bI (wideF T n s b hr k))) ∧ mS [43] [228, 229] σ t) := by
  subst hx; subst hy; subst hz; subst hu
  refine MC1 tX6_isWide [2] rfl okX6_isWide rfl rfl rfl rfl (fun P hP => ?_)
  have key : ∀ (m i : Nat) (τ : AS), k - i = m → i ≤ k → mS [43] [228, 229] σ τ → (∀ j, j < i → b ≤ wid T s (Nsh n s) (hr + j)) → P 2 [some tM, some (iv (nI s)), some (iv (nI b)), some (iv (nI hr)), some (iv (nI k)), some (iv (nI i))] [] τ := by
    intro m
    induction m with
    | zero =>
      intro i τ hm hi hS hall
      refine hP _ _ _ _ (And.intro (fun _ => ⟨nar1, ?_, hS⟩) (fun q => absurd (nI_le (by omega) (by omega)) q))
      have : wideF T n s b hr k = true := by
        unfold wideF
        rw [List.all_eq_true]
        intro j hj
        have := List.mem_range.mp hj
        exact decide_eq_true (hall j (by omega))
      rw [this]
      rfl
    | succ m ih =>
      intro i τ hm hi hS hall
      refine hP _ _ _ _ (And.intro (fun q => absurd q (nI_ge (by omega) (by omega))) (fun _ => ?_))
      refine mcall (c_widthOf G g l d τ T n (h.keep hS rfl rfl) _ _ s (hr + i) rfl (nI_add _ _) hs (by omega)) (fun r s' h9 => ?_)
      obtain ⟨rfl, h9⟩ := h9
      have hw := wid_le T s (Nsh n s) (hr + i)
      refine And.intro (fun q => ?_) (fun q => ⟨nar0, ?_, hS.tr h9⟩)
      · have q := (nI_leI (by omega) (by omega)).mp q
        show P 2 [some tM, some (iv (nI s)), some (iv (nI b)), some (iv (nI hr)), some (iv (nI k)), some (iv (nI i + nI 1))] [] s'
        rw [nI_add]
        refine ih (i+1) s' (by omega) (by omega) (hS.tr h9) (fun j hj => ?_)
        by_cases e : j = i
        · rw [e]; exact q
        · exact hall j (by omega)
      · have q : ¬ b ≤ wid T s (Nsh n s) (hr + i) := fun q2 => q ((nI_leI (by omega) (by omega)).mpr q2)
        have : wideF T n s b hr k = false := by
          rw [Bool.eq_false_iff]
          intro hh
          have := List.all_eq_true.mp hh i (List.mem_range.mpr (by omega))
          exact q (of_decide_eq_true this)
        rw [this]
        rfl
  refine hP _ _ _ _ ?_
  exact key k 0 σ rfl (Nat.zero_le _) mS.rf (fun j hj => absurd hj (Nat.not_lt_zero j))
/-- a street is passed in an hour by who is so broad -/
def passF (T : Twn) (n : Nws) (s b hr : Nat) : Bool := wideF T n s b hr (Ttk T s)
theorem c_isPassed (T : Twn) (n : Nws) (h : TN T n σ) (x y z : Int32) (s b hr : Nat) (hx : x = nI s) (hy : y = nI b) (hz : z = nI hr) (hs : s < Tns T) (hb : b ≤ 1000) (h1 : hr ≤ 900000) :
    MC G g l (d+7) mX6_isPassed [tM, iv x, iv y, iv z] σ (fun r t => r = some (iv (bI (passF T n s b hr))) ∧ mS [43] [228, 229] σ t) := by
  have ht := (h.1.2.1 s hs).2.2.2.1
  refine MC0 tX6_isPassed rfl okX6_isPassed rfl rfl rfl rfl (fun P => ?_)
  refine mcall (c_takesOf G g l (d+5) σ T h.2.2.1 _ s hx hs h.1) (fun r s' h9 => ?_)
  obtain ⟨rfl, rfl⟩ := h9
  refine mcall (c_isWide G g l d _ T n h _ _ _ _ s b hr (Ttk T s) hx hy hz rfl hs hb h1 (by omega)) (fun r s' h9 => ?_)
  obtain ⟨rfl, h9⟩ := h9
  exact ⟨nar_bI _, rfl, h9⟩
/-- the other end -/
def otherF (T : Twn) (s p : Nat) : Option Nat := if Tfr T s = p then some (Tto T s) else if Tto T s = p then some (Tfr T s) else none
def optI (o : Option Nat) : Int32 := match o with
  | some k => nI k
  | none => - nI 1
theorem c_other (T : Twn) (h : MTn T σ) (hT : TOK T) (x y : Int32) (s p : Nat) (hx : x = nI s) (hy : y = nI p) (hs : s < Tns T) (hp : p ≤ 1000) :
    MC G g l (d+2) mX6_other [tM, iv x, iv y] σ (fun r t => r = some (iv (optI (otherF T s p))) ∧ t = σ) := by
  subst hx; subst hy
  have := hT.1
  have hT2 := hT.2.1 s hs
  have e0 : gI σ 222 (60 + 5 * s + 0) = nI (Tfr T s) := (h.2.2.2.1 s hs).1
  have e1 : gI σ 222 (60 + 5 * s + 1) = nI (Tto T s) := (h.2.2.2.1 s hs).2.1
  refine MC0 tX6_other rfl okX6_other rfl rfl rfl rfl (fun P => ?_)
  refine mcall (c_endOf G g l d σ _ _ s 0 rfl rfl (by omega) (by omega)) (fun r s' h9 => ?_)
  obtain ⟨rfl, rfl⟩ := h9
  rw [e0]
  refine And.intro (fun q => ?_) (fun q => ?_)
  · have q : ¬ Tfr T s = p := fun e => q (by rw [e])
    refine mcall (c_endOf G g l d s' _ _ s 1 rfl rfl (by omega) (by omega)) (fun r s' h9 => ?_)
    obtain ⟨rfl, rfl⟩ := h9
    rw [e1]
    refine And.intro (fun q2 => ⟨?_, rfl⟩) (fun q2 => ?_)
    · have q2 : ¬ Tto T s = p := fun e => q2 (by rw [e])
      unfold otherF
      rw [if_neg q, if_neg q2]
      rfl
    · have q2 : Tto T s = p := (nI_eq (by omega) (by omega)).mp q2
      refine mcall (c_endOf G g l d s' _ _ s 0 rfl rfl (by omega) (by omega)) (fun r s' h9 => ?_)
      obtain ⟨rfl, rfl⟩ := h9
      rw [e0]
      refine ⟨?_, rfl⟩
      unfold otherF
      rw [if_neg q, if_pos q2]
      rfl
  · have q : Tfr T s = p := (nI_eq (by omega) (by omega)).mp q
    refine mcall (c_endOf G g l d s' _ _ s 1 rfl rfl (by omega) (by omega)) (fun r s' h9 => ?_)
    obtain ⟨rfl, rfl⟩ := h9
    rw [e1]
    refine ⟨?_, rfl⟩
    unfold otherF
    rw [if_pos q]
    rfl
end MF
