/-- a word's array -/
def Wd (id : Nat) (w : List Nat) (σ : AS) : Prop := (∀ i c, w[i]? = some c → gI σ id i = nI c) ∧ ∀ c ∈ w, c < 256
theorem Wd.keep {fs ids : List Nat} {id : Nat} {w : List Nat} {σ s : AS} (h : Wd id w σ) (hS : mS fs ids σ s) (h1 : ids.contains id = false) (h2 : Nat.beq id 200 = false) : Wd id w s := ⟨fun i c hc => by
  rw [hS.ia id h1 h2]
  exact h.1 i c hc, h.2⟩
def kwS (tp w : List Nat) (S : Pos) : Bool := match S with
  | .ok a => kw tp w a
  | .error _ => false
def takS (tp w : List Nat) (S : Pos) : Pos := match S with
  | .ok a => if kw tp w a = true then .ok (skp tp (a + w.length)) else .ok a
  | .error f => .error f
theorem pf_bad {tp : List Nat} {f : Flt} {σ : AS} (h : PF tp f σ) : ¬ gI σ 200 5 = nI 0 := by
  obtain ⟨p1, p2, p3, p4, p5⟩ := h
  intro q
  rw [p2, nI_eq (by omega) (by omega)] at q
  omega
theorem end_eq {x y : Int32} {a e : Nat} (h3 : x = nI a) (h7 : y = nI e - nI 1) (ha : a < 100000) (he : e < 100000) : (x = y ↔ e = a + 1) := by
  rw [h3, h7]
  constructor
  · intro q
    have := congrArg Int32.toInt q
    have e2 := pk_sub_toInt (a := e) (b := 1) (by omega) (by omega)
    rw [nI_toInt (by omega), e2] at this
    omega
  · intro q
    rw [q]
    exact (nI_pred a).symm
theorem pr_ne {tp : List Nat} {x y : Int32} {a e : Nat} (h3 : x = nI a) (h7 : y = nI e - nI 1) (h9 : e = a + 1 ↔ prLD tp a = true) (ha : a < 100000) (he : e < 100000) (q : ¬ x = y) : prLD tp a = false := by
  cases hc : prLD tp a with
  | false => rfl
  | true => exact absurd ((end_eq h3 h7 ha he).mpr (h9.mpr hc)) q
theorem pr_eq {tp : List Nat} {x y : Int32} {a e : Nat} (h3 : x = nI a) (h7 : y = nI e - nI 1) (h9 : e = a + 1 ↔ prLD tp a = true) (ha : a < 100000) (he : e < 100000) (q : x = y) : prLD tp a = true := h9.mp ((end_eq h3 h7 ha he).mp q)
theorem takS_no {tp w : List Nat} {S : Pos} {σ : AS} (h : kwS tp w S = false) (hE : PE tp S σ) : PX tp (takS tp w S) σ := by
  cases S with
  | error f => exact hE
  | ok a =>
    have h0 : kw tp w a = false := h
    have : takS tp w (.ok a) = .ok a := if_neg (by rw [h0]; decide)
    rw [this]
    exact ⟨a, hE⟩
/-- behind a word that was taken -/
theorem PO.behind {tp : List Nat} {a b : Nat} {σ t : AS} (h : PO tp a a σ) (hB : PB tp t) (h5 : gI t 200 5 = nI 0) (h6 : gI t 200 6 = - nI 1) (h2 : gI t 200 2 = nI b) (h4 : gI t 200 4 = nI b) (hab : a < b) (hb : b ≤ tp.length) (hpr : prLD tp b = true) : PX tp (.ok (skp tp b)) t := by
  refine ⟨b, hB, h5, h2, skp_ge tp b, skp_le hb, rfl, b + 1, by rw [h4]; exact (nI_pred b).symm, Nat.le_refl _, ?_, h6⟩
  have hs := skp_ge tp b
  constructor
  · intro e
    rw [show skp tp b = b by omega]
    exact hpr
  · intro e
    rcases Nat.lt_or_ge b (skp tp b) with q | q
    · rw [skp_pr q] at e; cases e
    · omega
theorem takS_yes {tp w : List Nat} {S : Pos} {σ : AS} {n : Nat} (h : kwS tp w S = true) (hE : PE tp S σ) (hn : w.length = n) : PX tp (takS tp w S) (sI (sI σ 200 2 (gI σ 200 2 + nI n)) 200 4 (gI (sI σ 200 2 (gI σ 200 2 + nI n)) 200 2)) := by
  cases S with
  | error f => cases h
  | ok a =>
    have h0 : kw tp w a = true := h
    have e1 : takS tp w (.ok a) = .ok (skp tp (a + w.length)) := if_pos h0
    rw [e1]
    have hO : PO tp a a σ := hE
    obtain ⟨k1, k2, k3, k4⟩ := kw_end h0
    have hl := hO.1.len
    have hwl : wEn tp a ≤ tp.length := endE_le isL hO.2.2.2.2.1
    have hge : a + 1 ≤ wEn tp a := by
      have e9 : endE isL tp a = endE isL tp (a+1) := endE_step k2
      have := endE_ge isL tp (a+1)
      show a + 1 ≤ endE isL tp a
      omega
    subst hn
    have g2 : gI (sI σ 200 2 (gI σ 200 2 + nI w.length)) 200 2 = nI (a + w.length) := by rw [gI_sI, if_pos ⟨rfl, rfl⟩, hO.2.2.1, nI_add]
    have hS : mS [2, 4] [] σ (sI (sI σ 200 2 (gI σ 200 2 + nI w.length)) 200 4 (gI (sI σ 200 2 (gI σ 200 2 + nI w.length)) 200 2)) := (mS.rf.f rfl).f rfl
    refine hO.behind (hO.1.keep hS rfl rfl) (by rw [hS.i 200 5 rfl rfl]; exact hO.2.1) (by rw [hS.i 200 6 rfl rfl]; obtain ⟨-, -, -, -, -, -, e, -, -, -, p10⟩ := hO; exact p10) ?_ ?_ (by omega) (by omega) ?_
    · rw [gI_sI, if_neg (by omega)]; exact g2
    · rw [gI_sI, if_pos ⟨rfl, rfl⟩]; exact g2
    · obtain ⟨j, hj⟩ : ∃ j, a + w.length = j + 1 := ⟨a + w.length - 1, by omega⟩
      rw [hj, prLD_s, show isAt isL tp j = true from endE_in (p := isL) (a := a) (by omega) (by show j < wEn tp a; omega)]
      rfl
