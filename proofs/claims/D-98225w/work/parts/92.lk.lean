/-! THE TAPE BEING READ, in the reference: place at hand (up to blanks), where the last word ended, or a fault -/
def PB (tp : List Nat) (σ : AS) : Prop := MTb tp σ ∧ gI σ 200 3 = nI tp.length
def PO (tp : List Nat) (a a' : Nat) (σ : AS) : Prop := PB tp σ ∧ gI σ 200 5 = nI 0 ∧ gI σ 200 2 = nI a' ∧ a' ≤ a ∧ a ≤ tp.length ∧ skp tp a' = a ∧ ∃ e, gI σ 200 4 = nI e - nI 1 ∧ e ≤ a' + 1 ∧ (e = a + 1 ↔ prLD tp a = true) ∧ gI σ 200 6 = - nI 1
def PF (tp : List Nat) (f : Flt) (σ : AS) : Prop := PB tp σ ∧ gI σ 200 5 = nI f.1 ∧ (1 ≤ f.1 ∧ f.1 ≤ 9) ∧ gI σ 200 6 = nI f.2 ∧ f.2 ≤ 1600
def PX (tp : List Nat) (S : Pos) (σ : AS) : Prop := match S with
  | .ok a => ∃ a', PO tp a a' σ
  | .error f => PF tp f σ
/-- the same, at its place itself -/
def PE (tp : List Nat) (S : Pos) (σ : AS) : Prop := match S with
  | .ok a => PO tp a a σ
  | .error f => PF tp f σ
theorem PE.px {tp : List Nat} {S : Pos} {σ : AS} (h : PE tp S σ) : PX tp S σ := by
  cases S with
  | ok a => exact ⟨a, h⟩
  | error f => exact h
def byI (tp : List Nat) (a : Nat) : Int32 := match tp[a]? with
  | some c => nI c
  | none => - nI 1
theorem PB.keep {fs ids : List Nat} {tp : List Nat} {σ s : AS} (h : PB tp σ) (hS : mS fs ids σ s) (h1 : ids.contains 201 = false) (h2 : (ids.contains 200 || fs.contains 3) = false) : PB tp s := by
  simp only [Bool.or_eq_false_iff] at h2
  exact ⟨h.1.keep hS h1, by rw [hS.i 200 3 h2.1 (by rw [h2.2]; rfl)]; exact h.2⟩
def pfs (fs ids : List Nat) : Bool := !(ids.contains 201 || ids.contains 200 || fs.contains 2 || fs.contains 3 || fs.contains 4 || fs.contains 5 || fs.contains 6)
theorem PX.keep {fs ids : List Nat} {tp : List Nat} {S : Pos} {σ s : AS} (h : PX tp S σ) (hS : mS fs ids σ s) (h1 : pfs fs ids = true) : PX tp S s := by
  unfold pfs at h1
  simp only [Bool.not_eq_true', Bool.or_eq_false_iff] at h1
  obtain ⟨⟨⟨⟨⟨⟨k0, k1⟩, k2⟩, k3⟩, k4⟩, k5⟩, k6⟩ := h1
  have e : ∀ j, fs.contains j = false → gI s 200 j = gI σ 200 j := fun j hj => hS.i 200 j k1 (by rw [hj]; rfl)
  have hB : ∀ {tp}, PB tp σ → PB tp s := fun hb => hb.keep hS k0 (by rw [k1, k3]; rfl)
  cases S with
  | ok a =>
    obtain ⟨a', p1, p2, p3, p4, p5, p6, e1, p7, p8, p9, p10⟩ := h
    exact ⟨a', hB p1, by rw [e 5 k5]; exact p2, by rw [e 2 k2]; exact p3, p4, p5, p6, e1, by rw [e 4 k4]; exact p7, p8, p9, by rw [e 6 k6]; exact p10⟩
  | error f =>
    obtain ⟨p1, p2, p3, p4, p5⟩ := h
    exact ⟨hB p1, by rw [e 5 k5]; exact p2, p3, by rw [e 6 k6]; exact p4, p5⟩
theorem PE.keep {fs ids : List Nat} {tp : List Nat} {S : Pos} {σ s : AS} (h : PE tp S σ) (hS : mS fs ids σ s) (h1 : pfs fs ids = true) : PE tp S s := by
  unfold pfs at h1
  simp only [Bool.not_eq_true', Bool.or_eq_false_iff] at h1
  obtain ⟨⟨⟨⟨⟨⟨k0, k1⟩, k2⟩, k3⟩, k4⟩, k5⟩, k6⟩ := h1
  have e : ∀ j, fs.contains j = false → gI s 200 j = gI σ 200 j := fun j hj => hS.i 200 j k1 (by rw [hj]; rfl)
  have hB : ∀ {tp}, PB tp σ → PB tp s := fun hb => hb.keep hS k0 (by rw [k1, k3]; rfl)
  cases S with
  | ok a =>
    obtain ⟨p1, p2, p3, p4, p5, p6, e1, p7, p8, p9, p10⟩ := h
    exact ⟨hB p1, by rw [e 5 k5]; exact p2, by rw [e 2 k2]; exact p3, p4, p5, p6, e1, by rw [e 4 k4]; exact p7, p8, p9, by rw [e 6 k6]; exact p10⟩
  | error f =>
    obtain ⟨p1, p2, p3, p4, p5⟩ := h
    exact ⟨hB p1, by rw [e 5 k5]; exact p2, p3, by rw [e 6 k6]; exact p4, p5⟩
theorem PB.len {tp : List Nat} {σ : AS} (h : PB tp σ) : tp.length ≤ 1600 := h.1.1
theorem letB {tp : List Nat} {σ : AS} (h : MTb tp σ) (a : Nat) : decide (nI 97 ≤ byI tp a ∧ byI tp a ≤ nI 122) = isAt isL tp a := by
  unfold byI isAt
  cases hc : tp[a]? with
  | none => decide
  | some c =>
    have := (h.2 a c hc).2
    show decide (nI 97 ≤ nI c ∧ nI c ≤ nI 122) = isL c
    unfold isL
    apply decide_eq_decide.mpr
    rw [nI_leI (by omega) (by omega), nI_leI (by omega) (by omega)]
theorem digI {tp : List Nat} {σ : AS} (h : MTb tp σ) (a : Nat) : decide (nI 48 ≤ byI tp a ∧ byI tp a ≤ nI 57) = isAt isD tp a := by
  unfold byI isAt
  cases hc : tp[a]? with
  | none => decide
  | some c =>
    have := (h.2 a c hc).2
    show decide (nI 48 ≤ nI c ∧ nI c ≤ nI 57) = isD c
    unfold isD
    apply decide_eq_decide.mpr
    rw [nI_leI (by omega) (by omega), nI_leI (by omega) (by omega)]
theorem byI_eq {tp : List Nat} {σ : AS} (h : MTb tp σ) (a c : Nat) (hc : c < 1000) : (byI tp a = nI c ↔ tp[a]? = some c) := by
  unfold byI
  cases hc2 : tp[a]? with
  | none =>
    show (- nI 1 = nI c ↔ none = some c)
    exact ⟨fun e => absurd e.symm (nI_ne_m1 (by omega)), fun e => by cases e⟩
  | some c' =>
    have := (h.2 a c' hc2).2
    show (nI c' = nI c ↔ some c' = some c)
    rw [nI_eq (by omega) (by omega)]
    exact ⟨fun e => by rw [e], fun e => by cases e; rfl⟩
theorem byI_none {tp : List Nat} {σ : AS} (h : MTb tp σ) (a : Nat) : (byI tp a = - nI 1 ↔ tp.length ≤ a) := by
  unfold byI
  cases hc2 : tp[a]? with
  | none => exact ⟨fun _ => List.getElem?_eq_none_iff.mp hc2, fun _ => rfl⟩
  | some c' =>
    have h1 := (h.2 a c' hc2).2
    have h2 := get_lt hc2
    exact ⟨fun e => absurd e (nI_ne_m1 (by omega)), fun e => by omega⟩
section LK_
variable (G : CX) (g : GX) (l : Launch) (d : Nat) (σ : AS)
set_option maxHeartbeats 1000000 in
theorem c_look (tp : List Nat) (a a' : Nat) (h : PO tp a a' σ) : MC G g l (d+1) mX6_look [tM] σ (fun r t => r = some (iv (byI tp a)) ∧ mS [2] [] σ t ∧ PO tp a a t) := by
  obtain ⟨p1, p2, p3, p4, p5, p6, e, p7, p8, p9, p10⟩ := h
  have hl := p1.len
  refine MC1 tX6_look [0, 19, 26, 38] rfl okX6_look rfl rfl rfl rfl (fun P hP => ?_)
  have fin : ∀ (x : Int32) (τ : AS), x = byI tp a → mS [2] [] σ τ → gI τ 200 2 = nI a → P 38 [some tM] [iv x] τ := by
    intro x τ hx hS h2
    subst hx
    refine hP _ _ _ _ ⟨rfl, hS, p1.keep hS rfl rfl, ?_, h2, Nat.le_refl _, p5, ?_, e, ?_, by omega, p9, by rw [hS.i 200 6 rfl rfl]; exact p10⟩
    · rw [hS.i 200 5 rfl rfl]; exact p2
    · rw [← p6]; exact skp_skp tp a'
    · rw [hS.i 200 4 rfl rfl]; exact p7
  have key : ∀ (m x : Nat) (τ : AS), x + m = a → a' ≤ x → mS [2] [] σ τ → gI τ 200 2 = nI x → skp tp x = a → P 0 [some tM] [] τ := by
    intro m
    induction m with
    | zero =>
      intro x τ hm hx hS h2 hs
      have ex : x = a := by omega
      subst ex
      have hB := p1.keep hS rfl rfl
      have h3 : gI τ 200 3 = nI tp.length := hB.2
      have at26 : P 26 [some tM] [] τ := by
        refine hP _ _ _ _ (And.intro (fun q => ?_) (fun q => ?_))
        · have q0 : gI τ 200 3 ≤ gI τ 200 2 := q
          rw [h2, h3, nI_leI (by omega) (by omega)] at q0
          exact fin _ τ ((byI_none hB.1 x).mpr q0).symm hS h2
        · have q0 : ¬ gI τ 200 3 ≤ gI τ 200 2 := q
          rw [h2, h3, nI_leI (by omega) (by omega)] at q0
          obtain ⟨c, hc⟩ : ∃ c, tp[x]? = some c := ⟨_, List.getElem?_eq_getElem (by omega)⟩
          have hv := hB.1.2 x c hc
          refine And.intro (show vp_in (gI τ 200 2) 1600 from by rw [h2]; exact vinN (by omega) (by decide)) ?_
          refine fin (gI τ 201 (gI τ 200 2).toNatClampNeg) τ ?_ hS h2
          rw [h2, clN (by omega), hv.1]
          unfold byI
          rw [hc]
      refine hP _ _ _ _ (And.intro (fun q => at26) (fun q => ?_))
      have q0 : ¬ gI τ 200 3 ≤ gI τ 200 2 := q
      rw [h2, h3, nI_leI (by omega) (by omega)] at q0
      obtain ⟨c, hc⟩ : ∃ c, tp[x]? = some c := ⟨_, List.getElem?_eq_getElem (by omega)⟩
      have hv := hB.1.2 x c hc
      have hnb : isB c = false := by
        have := endE_end isB tp x
        rw [show endE isB tp x = x from hs] at this
        rw [isAt_some hc] at this
        exact this
      have hnb := of_decide_eq_false hnb
      have vx : vp_in (gI τ 200 2) 1600 := by rw [h2]; exact vinN (by omega) (by decide)
      have gx : gI τ 201 (gI τ 200 2).toNatClampNeg = nI c := by rw [h2, clN (by omega), hv.1]
      refine And.intro vx (And.intro (fun q => ?_) (fun _ => And.intro vx (And.intro (fun _ => at26) (fun q => ?_))))
      · have q1 : gI τ 201 (gI τ 200 2).toNatClampNeg = nI 10 := q
        rw [gx, nI_eq (by omega) (by omega)] at q1
        omega
      · have q1 : gI τ 201 (gI τ 200 2).toNatClampNeg = nI 32 := q
        rw [gx, nI_eq (by omega) (by omega)] at q1
        omega
    | succ m ih =>
      intro x τ hm hx hS h2 hs
      have hB := p1.keep hS rfl rfl
      have h3 : gI τ 200 3 = nI tp.length := hB.2
      have hb : isAt isB tp x = true := endE_in (p := isB) (a := x) (Nat.le_refl _) (by show x < skp tp x; omega)
      have hxl := isAt_lt hb
      obtain ⟨c, hc⟩ : ∃ c, tp[x]? = some c := ⟨_, List.getElem?_eq_getElem hxl⟩
      rw [isAt_some hc] at hb
      have hb := of_decide_eq_true hb
      have hv := hB.1.2 x c hc
      have vx : vp_in (gI τ 200 2) 1600 := by rw [h2]; exact vinN (by omega) (by decide)
      have gx : gI τ 201 (gI τ 200 2).toNatClampNeg = nI c := by rw [h2, clN (by omega), hv.1]
      have at19 : P 19 [some tM] [] τ := by
        refine hP _ _ _ _ ?_
        show P 0 [some tM] [] (sI τ 200 2 (gI τ 200 2 + nI 1))
        rw [h2, nI_add]
        refine ih (x+1) _ (by omega) (by omega) (hS.f rfl) (by rw [gI_sI, if_pos ⟨rfl, rfl⟩]) ?_
        rw [← hs]
        exact (endE_step (p := isB) (by rw [isAt_some hc]; exact decide_eq_true hb)).symm
      refine hP _ _ _ _ (And.intro (fun q => ?_) (fun _ => And.intro vx (And.intro (fun _ => at19) (fun q1 => And.intro vx (And.intro (fun q2 => ?_) (fun _ => at19))))))
      · have q0 : gI τ 200 3 ≤ gI τ 200 2 := q
        rw [h2, h3, nI_leI (by omega) (by omega)] at q0
        omega
      · have q3 : ¬ gI τ 201 (gI τ 200 2).toNatClampNeg = nI 10 := q1
        rw [gx, nI_eq (by omega) (by omega)] at q3
        have q4 : ¬ gI τ 201 (gI τ 200 2).toNatClampNeg = nI 32 := q2
        rw [gx, nI_eq (by omega) (by omega)] at q4
        omega
  exact key (a - a') a' σ (by omega) (Nat.le_refl _) mS.rf p3 p6
theorem c_fail (tp : List Nat) (S : Pos) (h : PX tp S σ) (x y : Int32) (k p : Nat) (hx : x = nI k) (hy : y = nI p) (hk : 1 ≤ k) (hk9 : k ≤ 9) (hp : p ≤ 1600) :
    MC G g l (d+1) mX6_fail [tM, iv x, iv y] σ (fun r t => r = none ∧ mS [5, 6] [] σ t ∧ PX tp (match S with
      | .ok _ => .error (k, p)
      | .error f => .error f) t) := by
  subst hx; subst hy
  refine MC0 tX6_fail rfl okX6_fail rfl rfl rfl rfl (fun P => ?_)
  cases S with
  | ok a =>
    obtain ⟨a', p1, p2, -⟩ := h
    refine And.intro (fun _ => ⟨rfl, (mS.rf.f rfl).f rfl, p1.keep (fs := [5, 6]) (ids := []) ((mS.rf.f rfl).f rfl) rfl rfl, rfl, ⟨hk, hk9⟩, rfl, hp⟩) (fun q => absurd p2 q)
  | error f =>
    have h9 := h
    obtain ⟨p1, p2, p3, p4, p5⟩ := h
    refine And.intro (fun q => ?_) (fun _ => ⟨rfl, mS.rf, h9⟩)
    have q0 : gI σ 200 5 = nI 0 := q
    rw [p2, nI_eq (by omega) (by omega)] at q0
    omega
theorem c_takesSign (tp : List Nat) (S : Pos) (h : PX tp S σ) (x : Int32) (c : Nat) (hx : x = nI c) (hc : c < 256) (hn : isL c = false ∧ isD c = false) :
    MC G g l (d+2) mX6_takesSign [tM, iv x] σ (fun r t => mS [2] [] σ t ∧ (match S with
      | .ok a => (tp[a]? = some c ∧ r = some (iv (nI 1)) ∧ PX tp (.ok (skp tp (a+1))) t ∧ gI t 200 2 = nI (a+1)) ∨ (¬ tp[a]? = some c ∧ r = some (iv (nI 0)) ∧ PO tp a a t)
      | .error f => r = some (iv (nI 0)) ∧ PF tp f t)) := by
  subst hx
  refine MC0 tX6_takesSign rfl okX6_takesSign rfl rfl rfl rfl (fun P => ?_)
  cases S with
  | error f =>
    have h9 := h
    obtain ⟨p1, p2, p3, p4, p5⟩ := h
    refine And.intro (fun _ => ⟨nar0, mS.rf, rfl, h9⟩) (fun q => ?_)
    have q0 : gI σ 200 5 = nI 0 := q
    rw [p2, nI_eq (by omega) (by omega)] at q0
    omega
  | ok a =>
    obtain ⟨a', h9⟩ := h
    have p2 := h9.2.1
    refine And.intro (fun q => absurd p2 q) (fun _ => ?_)
    refine mcall (c_look G g l d σ tp a a' h9) (fun r s1 h8 => ?_)
    obtain ⟨rfl, S1, O1⟩ := h8
    have O9 := O1
    obtain ⟨p1, p2, p3, p4, p5, p6, e, p7, p8, p9, p10⟩ := O1
    have hl := p1.len
    refine And.intro (fun q => ?_) (fun q => ⟨nar0, S1, Or.inr ⟨fun e => q ((byI_eq p1.1 a c (by omega)).mpr e), rfl, O9⟩⟩)
    have q0 := (byI_eq p1.1 a c (by omega)).mp q
    have hal := get_lt q0
    have S2 : mS [2] [] s1 (sI s1 200 2 (gI s1 200 2 + nI 1)) := mS.rf.f rfl
    have e2 : gI (sI s1 200 2 (gI s1 200 2 + nI 1)) 200 2 = nI (a+1) := by rw [gI_sI, if_pos ⟨rfl, rfl⟩, p3, nI_add]
    refine ⟨nar1, S1.tr S2, Or.inl ⟨q0, rfl, ⟨a+1, p1.keep S2 rfl rfl, by rw [S2.i 200 5 rfl rfl]; exact p2, e2, skp_ge tp (a+1), skp_le (by omega), rfl, e, by rw [S2.i 200 4 rfl rfl]; exact p7, by omega, ?_, by rw [S2.i 200 6 rfl rfl]; exact p10⟩, e2⟩⟩
    have hs := skp_ge tp (a+1)
    have hpr : prLD tp (skp tp (a+1)) = false := by
      rcases Nat.lt_or_ge (a+1) (skp tp (a+1)) with h | h
      · exact skp_pr h
      · rw [show skp tp (a+1) = a + 1 by omega, prLD_s, isAt_some q0, isAt_some q0, hn.1, hn.2]; rfl
    rw [hpr]
    exact ⟨fun e9 => by omega, fun e9 => by cases e9⟩
theorem c_asksSign (tp : List Nat) (S : Pos) (h : PX tp S σ) (x : Int32) (c : Nat) (hx : x = nI c) (hc : c < 256) (hn : isL c = false ∧ isD c = false) :
    MC G g l (d+3) mX6_asksSign [tM, iv x] σ (fun r t => r = none ∧ mS [2, 5, 6] [] σ t ∧ PX tp (match S with
      | .ok a => askS tp c a
      | .error f => .error f) t) := by
  refine MC0 tX6_asksSign rfl okX6_asksSign rfl rfl rfl rfl (fun P => ?_)
  cases S with
  | error f =>
    have h9 := h
    obtain ⟨p1, p2, p3, p4, p5⟩ := h
    refine And.intro (fun _ => ⟨rfl, mS.rf, h9⟩) (fun q => ?_)
    have q0 : gI σ 200 5 = nI 0 := q
    rw [p2, nI_eq (by omega) (by omega)] at q0
    omega
  | ok a =>
    have h9 := h
    obtain ⟨a', p1, p2, -⟩ := h
    refine And.intro (fun q => absurd p2 q) (fun _ => ?_)
    refine mcall (c_takesSign G g l d σ tp (.ok a) h9 x c hx hc hn) (fun r s1 h8 => ?_)
    obtain ⟨S1, ⟨t1, rfl, t2, -⟩ | ⟨t1, rfl, t2⟩⟩ := h8
    · refine And.intro (fun _ => ⟨rfl, S1.mono rfl rfl, ?_⟩) (fun q => absurd q (by decide))
      show PX tp (askS tp c a) s1
      unfold askS
      rw [if_pos t1]
      exact t2
    · refine And.intro (fun q => absurd rfl q) (fun _ => ?_)
      have hl := t2.1.len
      have ha := t2.2.2.2.2.1
      refine mcall (c_fail G g l (d+1) s1 tp (.ok a) ⟨a, t2⟩ _ _ 1 a rfl t2.2.2.1 (by omega) (by omega) (by omega)) (fun r s2 h8 => ?_)
      obtain ⟨rfl, S2, X2⟩ := h8
      refine ⟨rfl, (S1.mono rfl rfl).tr (S2.mono rfl rfl), ?_⟩
      show PX tp (askS tp c a) s2
      unfold askS
      rw [if_neg t1]
      exact X2
end LK_
