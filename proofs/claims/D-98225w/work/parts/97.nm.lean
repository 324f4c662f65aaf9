theorem namV_lt (tp : List Nat) (a : Nat) : ∀ (m : Nat), (∀ i, a ≤ i → i < a + m → isAt isL tp i = true) → namV (sub_ tp a (a + m)) < 27 ^ m
  | 0, _ => by rw [Nat.add_zero, sub_nil]; decide
  | m+1, h => by
    have h1 := h (a + m) (by omega) (by omega)
    have hl := isAt_lt h1
    obtain ⟨c, hc⟩ : ∃ c, tp[a + m]? = some c := ⟨_, List.getElem?_eq_getElem hl⟩
    rw [isAt_some hc] at h1
    have h1 := of_decide_eq_true h1
    have ih := namV_lt tp a m (fun i h2 h3 => h i h2 (by omega))
    rw [show a + (m+1) = (a + m) + 1 by omega, sub_succ (by omega) hc, namV_snoc]
    have : 27 ^ (m+1) = 27 * 27 ^ m := by rw [Nat.pow_succ]; omega
    omega
theorem namF_ok {tp : List Nat} {a : Nat} {x : Nat × Nat} (h : namF tp a = .ok x) : a < x.2 ∧ x.2 ≤ tp.length ∧ x.1 < 387420489 ∧ 1 ≤ x.1 := by
  unfold namF at h
  split at h
  · cases h
  · rename_i h1
    split at h
    · cases h
    · rename_i h2
      cases h
      have hd : isAt isL tp a = true := by
        cases hc : isAt isL tp a with
        | true => rfl
        | false => exact absurd (Or.inl hc) h1
      have hl := isAt_lt hd
      have e1 : wEn tp a = wEn tp (a+1) := endE_step hd
      have e2 : a + 1 ≤ wEn tp (a+1) := endE_ge isL tp (a+1)
      have e3 : wEn tp a ≤ tp.length := endE_le isL (by omega)
      have e4 := skp_ge tp (wEn tp a)
      have hv := namV_lt tp a (wEn tp a - a) (fun i h1 h2 => endE_in (p := isL) (a := a) h1 (by show i < wEn tp a; omega))
      rw [show a + (wEn tp a - a) = wEn tp a by omega] at hv
      have hp : 27 ^ (wEn tp a - a) ≤ 27 ^ 6 := Nat.pow_le_pow_right (by omega) (by omega)
      refine ⟨by show a < skp tp (wEn tp a); omega, skp_le e3, by show namV (sub_ tp a (wEn tp a)) < _; omega, ?_⟩
      show 1 ≤ namV (sub_ tp a (wEn tp a))
      obtain ⟨j, hj⟩ : ∃ j, wEn tp a = j + 1 := ⟨wEn tp a - 1, by omega⟩
      have hjL : isAt isL tp j = true := endE_in (p := isL) (a := a) (by omega) (by show j < wEn tp a; omega)
      obtain ⟨c, hc⟩ : ∃ c, tp[j]? = some c := ⟨_, List.getElem?_eq_getElem (isAt_lt hjL)⟩
      rw [isAt_some hc] at hjL
      have hjL := of_decide_eq_true hjL
      rw [hj, sub_succ (by omega) hc, namV_snoc]
      omega
section NM_
variable (G : CX) (g : GX) (l : Launch) (d : Nat) (σ : AS)
set_option maxHeartbeats 2000000 in
theorem c_name (tp : List Nat) (S : Pos) (h : PX tp S σ) (hW : Wds σ) :
    MC G g l (d+4) mX6_name [tM] σ (fun r t => mS [2, 4, 5, 6, 27] [] σ t ∧ PX tp (bnd S (fun a => posOf (namF tp a))) t ∧ ∃ v, r = some (jv v) ∧ ∀ a z, S = .ok a → namF tp a = .ok z → v = lN z.1 ∧ gI t 200 27 = nI a) := by
  refine MC1 tX6_name [17, 30, 78] rfl okX6_name rfl rfl rfl rfl (fun P hP => ?_)
  refine hP _ _ _ _ ?_
  cases S with
  | error f => exact And.intro (fun q => absurd q (pf_bad h)) (fun _ => ⟨mS.rf, h, _, rfl, fun a z e => by cases e⟩)
  | ok a =>
    obtain ⟨a', h9⟩ := h
    refine And.intro (fun _ => ?_) (fun q => absurd h9.2.1 q)
    refine mcall (c_look G g l (d+2) σ tp a a' h9) (fun r s1 h8 => ?_)
    obtain ⟨rfl, S1, O1⟩ := h8
    have S1' : mS [2, 4, 5, 6, 27] [] σ s1 := S1.mono rfl rfl
    have no : ∀ τ, mS [2, 4, 5, 6, 27] [] σ τ → PO tp a a τ → (isAt isL tp a = false ∨ prLD tp a = true ∨ ownH tp a = true) → P 17 [some tM, none, none] [] τ := by
      intro τ hS hO hc
      have hl := hO.1.len
      have ha := hO.2.2.2.2.1
      refine hP _ _ _ _ ?_
      refine mcall (c_fail0 G g l (d+2) τ tp hO.1 hO.2.1 _ _ 1 a rfl hO.2.2.1 (by omega) (by omega) (by omega)) (fun r s2 h8 => ?_)
      obtain ⟨rfl, S2, F2⟩ := h8
      have en : namF tp a = .error (1, a) := by unfold namF; rw [if_pos hc]
      refine ⟨hS.tr (S2.mono rfl rfl), ?_, _, rfl, fun b z e1 e2 => ?_⟩
      · show PX tp (posOf (namF tp a)) s2
        rw [en]
        exact F2
      · cases e1
        rw [en] at e2
        cases e2
    obtain ⟨p1, p2, p3, p4, p5, p6, e, p7, p8, p9, p10⟩ := O1
    have O1 : PO tp a a s1 := ⟨p1, p2, p3, p4, p5, p6, e, p7, p8, p9, p10⟩
    have hl := p1.len
    refine mcall (c_isLetter G g l (d+2) s1 (byI tp a)) (fun r s2 h8 => ?_)
    obtain ⟨rfl, rfl⟩ := h8
    rw [letB p1.1 a]
    cases hD : isAt isL tp a with
    | false => exact And.intro (fun _ => no s2 S1' O1 (Or.inl hD)) (fun q => absurd rfl q)
    | true =>
      refine And.intro (fun q => absurd q (by decide)) (fun _ => And.intro (fun q => no s2 S1' O1 (Or.inr (Or.inl (pr_eq p3 p7 p9 (by omega) (by omega) q)))) (fun q => ?_))
      have hpr : prLD tp a = false := pr_ne p3 p7 p9 (by omega) (by omega) q
      refine mcall (c_isOwnHere G g l d s2 tp (.ok a) ⟨a, O1⟩ (hW.keep S1 rfl)) (fun r s3 h8 => ?_)
      obtain ⟨rfl, S3, E3⟩ := h8
      have S3' : mS [2, 4, 5, 6, 27] [] σ s3 := S1'.tr (S3.mono rfl rfl)
      have O3 : PO tp a a s3 := E3
      show _ ∧ _
      cases hown : ownH tp a with
      | true =>
        have e9 : ownS tp (.ok a) = true := hown
        rw [e9]
        exact And.intro (fun q => absurd q (by decide)) (fun _ => no s3 S3' O3 (Or.inr (Or.inr hown)))
      | false =>
        have e9 : ownS tp (.ok a) = false := hown
        rw [e9]
        refine And.intro (fun _ => ?_) (fun q => absurd rfl q)
        obtain ⟨p1, p2, p3, p4, p5, p6, e, p7, p8, p9, p10⟩ := O3
        have O3 : PO tp a a s3 := ⟨p1, p2, p3, p4, p5, p6, e, p7, p8, p9, p10⟩
        have hnc : ¬ (isAt isL tp a = false ∨ prLD tp a = true ∨ ownH tp a = true) := by rw [hD, hpr, hown]; simp
        have hdl : wEn tp a ≤ tp.length := endE_le isL p5
        have hd1 : a + 1 ≤ wEn tp a := by
          have e9 : endE isL tp a = endE isL tp (a+1) := endE_step hD
          have := endE_ge isL tp (a+1)
          show a + 1 ≤ endE isL tp a
          omega
        have dig : ∀ i, a ≤ i → i < wEn tp a → isAt isL tp i = true := fun i h1 h2 => endE_in (p := isL) (a := a) h1 h2
        have fin : ∀ τ, mS [2, 4, 5, 6, 27] [] s3 τ → PB tp τ → (gI τ 200 5 = nI 0 ∧ gI τ 200 6 = - nI 1) → gI τ 200 2 = nI (wEn tp a) → gI τ 200 27 = nI a → wEn tp a - a ≤ 6 → P 78 [some tM, some (jv (lN (namV (sub_ tp a (wEn tp a))))), none] [] τ := by
          intro τ hS hB h5 h2 h27 h4
          have S4 : mS [2, 4, 5, 6, 27] [] s3 (sI τ 200 4 (gI τ 200 2)) := hS.f rfl
          have B3 : PB tp (sI τ 200 4 (gI τ 200 2)) := hB.keep (fs := [4]) (ids := []) (mS.rf.f rfl) rfl rfl
          have h53 : gI (sI τ 200 4 (gI τ 200 2)) 200 5 = nI 0 := by rw [gI_sI, if_neg (by omega)]; exact h5.1
          have h63 : gI (sI τ 200 4 (gI τ 200 2)) 200 6 = - nI 1 := by rw [gI_sI, if_neg (by omega)]; exact h5.2
          have en : namF tp a = .ok (namV (sub_ tp a (wEn tp a)), skp tp (wEn tp a)) := by unfold namF; rw [if_neg hnc, if_neg (by omega)]
          refine hP _ _ _ _ ⟨S3'.tr S4, ?_, _, rfl, fun b z e1 e2 => ?_⟩
          · show PX tp (posOf (namF tp a)) _
            rw [en]
            refine O3.behind B3 h53 h63 (by rw [gI_sI, if_neg (by omega)]; exact h2) (by rw [gI_sI, if_pos ⟨rfl, rfl⟩]; exact h2) (by omega) hdl ?_
            obtain ⟨j, hj⟩ : ∃ j, wEn tp a = j + 1 := ⟨wEn tp a - 1, by omega⟩
            rw [hj, prLD_s, dig j (by omega) (by omega)]
            rfl
          · cases e1
            rw [en] at e2
            cases e2
            exact ⟨rfl, by rw [gI_sI, if_neg (by omega)]; exact h27⟩
        have key : ∀ (m k : Nat) (τ : AS), k + m = wEn tp a → a ≤ k → k - a ≤ 6 → mS [2, 4, 5, 6, 27] [] s3 τ → PB tp τ → (gI τ 200 5 = nI 0 ∧ gI τ 200 6 = - nI 1) → gI τ 200 2 = nI k → gI τ 200 27 = nI a → P 30 [some tM, some (jv (lN (namV (sub_ tp a k)))), none] [] τ := by
          intro m
          induction m with
          | zero =>
            intro k τ hk hak hk4 hS hB h5 h2 h27
            have ek : k = wEn tp a := by omega
            subst ek
            have h3 : gI τ 200 3 = nI tp.length := hB.2
            refine hP _ _ _ _ (And.intro (fun _ => fin τ hS hB h5 h2 h27 hk4) (fun q => ?_))
            have q0 : ¬ gI τ 200 3 ≤ gI τ 200 2 := q
            rw [h2, h3, nI_leI (by omega) (by omega)] at q0
            obtain ⟨c, hc⟩ : ∃ c, tp[wEn tp a]? = some c := ⟨_, List.getElem?_eq_getElem (by omega)⟩
            have hv := hB.1.2 _ c hc
            refine And.intro (show vp_in (gI τ 200 2) 1600 from by rw [h2]; exact vinN (by omega) (by decide)) ?_
            refine mcall (c_isLetter G g l (d+2) τ _) (fun r s4 h8 => ?_)
            obtain ⟨rfl, rfl⟩ := h8
            rw [show gI s4 201 (gI s4 200 2).toNatClampNeg = byI tp (wEn tp a) by rw [h2, clN (by omega), hv.1]; unfold byI; rw [hc]]
            rw [letB p1.1, show isAt isL tp (wEn tp a) = false from endE_end isL tp a]
            exact And.intro (fun _ => fin s4 hS hB h5 h2 h27 hk4) (fun q => absurd rfl q)
          | succ m ih =>
            intro k τ hk hak hk4 hS hB h5 h2 h27
            have h3 : gI τ 200 3 = nI tp.length := hB.2
            have hkD : isAt isL tp k = true := dig k hak (by omega)
            have hkl := isAt_lt hkD
            obtain ⟨c, hc⟩ : ∃ c, tp[k]? = some c := ⟨_, List.getElem?_eq_getElem hkl⟩
            have hv := hB.1.2 _ c hc
            have hcd : isL c = true := by rw [isAt_some hc] at hkD; exact hkD
            have hcd := of_decide_eq_true hcd
            have vx : vp_in (gI τ 200 2) 1600 := by rw [h2]; exact vinN (by omega) (by decide)
            have gc : gI τ 201 (gI τ 200 2).toNatClampNeg = nI c := by rw [h2, clN (by omega), hv.1]
            refine hP _ _ _ _ (And.intro (fun q => ?_) (fun _ => And.intro vx ?_))
            · have q0 : gI τ 200 3 ≤ gI τ 200 2 := q
              rw [h2, h3, nI_leI (by omega) (by omega)] at q0
              omega
            refine mcall (c_isLetter G g l (d+2) τ _) (fun r s4 h8 => ?_)
            obtain ⟨rfl, rfl⟩ := h8
            rw [show gI s4 201 (gI s4 200 2).toNatClampNeg = byI tp k by rw [gc]; unfold byI; rw [hc]]
            rw [letB p1.1, hkD]
            have ed : gI s4 200 2 - gI s4 200 27 = nI (k - a) := by rw [h2, h27]; exact nI_s1 _ _ hak
            refine And.intro (fun q => absurd q (by decide)) (fun _ => And.intro (fun q => ?_) (fun q => ?_))
            · have q0 : ¬ gI s4 200 2 - gI s4 200 27 = nI 6 := q
              rw [ed, nI_eq (by omega) (by omega)] at q0
              refine And.intro vx ?_
              show P 30 [some tM, some (jv (lN 27 * lN (namV (sub_ tp a k)) + (gI s4 201 (gI s4 200 2).toNatClampNeg).toInt64 - lN 97 + lN 1)), none] [] (sI s4 200 2 (gI s4 200 2 + nI 1))
              rw [gc, h2, nI_add, nI_zL (by omega), lN_zL, lN_zL, lN_zL, lN_zL, zL_mul, zL_add, zL_sub, zL_add]
              have ev : (((27 : Nat) : Int) * ((namV (sub_ tp a k) : Nat) : Int) + (c : Int) - ((97 : Nat) : Int) + ((1 : Nat) : Int)) = ((namV (sub_ tp a (k+1)) : Nat) : Int) := by
                rw [sub_succ hak hc, namV_snoc]
                omega
              rw [ev, ← lN_zL]
              have S5 : mS [2] [] s4 (sI s4 200 2 (nI (k+1))) := mS.rf.f rfl
              exact ih (k+1) _ (by omega) (by omega) (by omega) (hS.f rfl) (hB.keep S5 rfl rfl) ⟨by rw [S5.i 200 5 rfl rfl]; exact h5.1, by rw [S5.i 200 6 rfl rfl]; exact h5.2⟩ (by rw [gI_sI, if_pos ⟨rfl, rfl⟩]) (by rw [S5.i 200 27 rfl rfl]; exact h27)
            · have q0 : gI s4 200 2 - gI s4 200 27 = nI 6 := q
              rw [ed, nI_eq (by omega) (by omega)] at q0
              have en : namF tp a = .error (1, a + 6) := by unfold namF; rw [if_neg hnc, if_pos (by omega)]
              refine mcall (c_fail0 G g l (d+2) s4 tp hB h5.1 _ _ 1 (a+6) rfl (by rw [h2, show k = a + 6 by omega]) (by omega) (by omega) (by omega)) (fun r s5 h8 => ?_)
              obtain ⟨rfl, S5, F4⟩ := h8
              refine ⟨(S3'.tr hS).tr (S5.mono rfl rfl), ?_, _, rfl, fun b z e1 e2 => ?_⟩
              · show PX tp (posOf (namF tp a)) _
                rw [en]
                exact F4
              · cases e1
                rw [en] at e2
                cases e2
        have S6 : mS [27] [] s3 (sI s3 200 27 (gI s3 200 2)) := mS.rf.f rfl
        have := key (wEn tp a - a) a (sI s3 200 27 (gI s3 200 2)) (by omega) (Nat.le_refl _) (by omega) (S6.mono rfl rfl) (p1.keep S6 rfl rfl) ⟨by rw [S6.i 200 5 rfl rfl]; exact p2, by rw [S6.i 200 6 rfl rfl]; exact p10⟩ (by rw [S6.i 200 2 rfl rfl]; exact p3) (by rw [gI_sI, if_pos ⟨rfl, rfl⟩]; exact p3)
        rw [sub_nil] at this
        exact this
/-- the names that are told, by kinds -/
abbrev Nms : Type := List Nat × List Nat × List Nat
def nmK (N : Nms) (k : Nat) : List Nat := if k = 0 then N.1 else if k = 1 then N.2.1 else N.2.2
def idxF (v : Nat) : List Nat → Nat → Option Nat
  | [], _ => none
  | x :: r, k => if x = v then some k else idxF v r (k+1)
def nmOf (N : Nms) (k v : Nat) : Option Nat := idxF v (nmK N k) 0
/-- in the reference's arrays (220: how many, 221: the names) -/
def MNm (N : Nms) (σ : AS) : Prop := (N.1.length ≤ 9 ∧ N.2.1.length ≤ 12 ∧ N.2.2.length ≤ 6) ∧ (gI σ 220 0 = nI N.1.length ∧ gI σ 220 1 = nI N.2.1.length ∧ gI σ 220 2 = nI N.2.2.length) ∧ (∀ k, k < 3 → ∀ i v, (nmK N k)[i]? = some v → gL σ 221 (12 * k + i) = lN v ∧ v < 387420489)
theorem MNm.keep {fs ids : List Nat} {N : Nms} {σ s : AS} (h : MNm N σ) (hS : mS fs ids σ s) (h1 : (ids.contains 220 || ids.contains 221) = false) : MNm N s := by
  simp only [Bool.or_eq_false_iff] at h1
  have e0 : ∀ k, gI s 220 k = gI σ 220 k := hS.ia 220 h1.1 rfl
  have e1 : ∀ k, gL s 221 k = gL σ 221 k := hS.la 221 h1.2 rfl
  unfold MNm at h ⊢
  simp only [e0, e1]
  exact h
theorem MNm.cnt {N : Nms} {σ : AS} (h : MNm N σ) {k : Nat} (hk : k < 3) : gI σ 220 k = nI (nmK N k).length ∧ (nmK N k).length ≤ 12 := by
  have : k = 0 ∨ k = 1 ∨ k = 2 := by omega
  obtain ⟨⟨h1, h2, h3⟩, ⟨c1, c2, c3⟩, -⟩ := h
  rcases this with rfl | rfl | rfl
  · exact ⟨c1, by show N.1.length ≤ 12; omega⟩
  · exact ⟨c2, h2⟩
  · exact ⟨c3, by show N.2.2.length ≤ 12; omega⟩
theorem lN_inj {a b : Nat} (ha : a < 1000000000) (hb : b < 1000000000) : lN a = lN b ↔ a = b := by
  constructor
  · intro h
    have := congrArg Int64.toInt h
    rw [lN_toInt (by omega), lN_toInt (by omega)] at this
    omega
  · intro h; rw [h]
theorem c_nameOf (N : Nms) (h : MNm N σ) (x : Int32) (y : Int64) (k : Nat) (hx : x = nI k) (hk : k < 3) :
    MC G g l (d+1) mX6_nameOf [tM, iv x, jv y] σ (fun r t => t = σ ∧ ∃ u, r = some (iv u) ∧ ∀ v, y = lN v → v < 1000000000 → u = optI (nmOf N k v)) := by
  subst hx
  have hc := h.cnt hk
  refine MC1 tX6_nameOf [2, 21] rfl okX6_nameOf rfl rfl rfl rfl (fun P hP => ?_)
  have key : ∀ (rest : List Nat) (i : Nat), (nmK N k).drop i = rest → i ≤ (nmK N k).length → (∀ v, y = lN v → v < 1000000000 → nmOf N k v = idxF v rest i) → P 2 [some tM, some (iv (nI k)), some (jv y), none, some (iv (nI i))] [] σ := by
    intro rest
    induction rest with
    | nil =>
      intro i hd hi he
      have hlen : (nmK N k).length ≤ i := by
        have := congrArg List.length hd
        simp at this
        omega
      refine hP _ _ _ _ (And.intro (show vp_in (nI k) 6 from vinN (by omega) (by decide)) (And.intro (fun _ => ⟨rfl, _, rfl, fun v hv hv9 => by rw [he v hv hv9]; rfl⟩) (fun q => ?_)))
      have q0 : ¬ gI σ 220 (nI k).toNatClampNeg ≤ nI i := q
      rw [clN (by omega), hc.1, nI_leI (by omega) (by omega)] at q0
      omega
    | cons w rest ih =>
      intro i hd hi he
      have hw : (nmK N k)[i]? = some w := by
        have := congrArg (fun l => l[0]?) hd
        simpa [List.getElem?_drop] using this
      have hil := get_lt hw
      obtain ⟨gw, hw9⟩ := h.2.2 k hk i w hw
      have ei : nI 12 * nI k + nI i = nI (12 * k + i) := by rw [ix1, nI_add]
      have gl : gL σ 221 (nI 12 * nI k + nI i).toNatClampNeg = lN w := by rw [ei, clN (by omega), gw]
      refine hP _ _ _ _ (And.intro (show vp_in (nI k) 6 from vinN (by omega) (by decide)) (And.intro (fun q => ?_) (fun _ => And.intro (show vp_in (nI 12 * nI k + nI i) 72 from by rw [ei]; exact vinN (by omega) (by decide)) (And.intro (fun q => ?_) (fun q => ?_)))))
      · have q0 : gI σ 220 (nI k).toNatClampNeg ≤ nI i := q
        rw [clN (by omega), hc.1, nI_leI (by omega) (by omega)] at q0
        omega
      · have q9 : ¬ lg_cmp (gL σ 221 (nI 12 * nI k + nI i).toNatClampNeg) y = nI 0 := q
        rw [gl] at q9
        have q0 : ¬ lN w = y := fun e => q9 ((lg_cmp_eq _ _).mpr e)
        refine hP _ _ _ _ ?_
        show P 2 [some tM, some (iv (nI k)), some (jv y), none, some (iv (nI i + nI 1))] [] σ
        rw [nI_add]
        refine ih (i+1) ?_ (by omega) (fun v hv hv9 => ?_)
        · rw [← List.drop_drop, hd]; rfl
        · rw [he v hv hv9]
          conv => lhs; unfold idxF
          rw [if_neg (fun e => q0 (by rw [hv, e]))]
      · have q9 : lg_cmp (gL σ 221 (nI 12 * nI k + nI i).toNatClampNeg) y = nI 0 := q
        rw [gl] at q9
        have q0 : lN w = y := (lg_cmp_eq _ _).mp q9
        refine ⟨rfl, _, rfl, fun v hv hv9 => ?_⟩
        rw [he v hv hv9]
        unfold idxF
        rw [if_pos ((lN_inj (by omega) hv9).mp (by rw [q0, hv]))]
        rfl
  refine hP _ _ _ _ ?_
  exact key (nmK N k) 0 rfl (Nat.zero_le _) (fun v _ _ => rfl)
end NM_
