/-! THE READER (9) of the component; its fault (10) -/
abbrev tR : AV := .inr (.inr (some (.inl 9)))
abbrev XC (G : CX) (g : GX) (l : Launch) (d mi : Nat) (as : List AV) (σ : AS) (N : Option AV → AS → Prop) (X : AS → Prop) : Prop := CT G (true, g) l d mi as σ N X
theorem XC1 {G : CX} {g : GX} {l : Launch} {d mi : Nat} {y : MethodName} {cc : ByteArray} {mL : Nat} {rt : Option FieldType} {as : List AV} {s0 : AS} {N : Option AV → AS → Prop} {X : AS → Prop} (tab : List Ent) (labs : List Nat)
    (hq : getM MT mi = some (y, cc, mL, rt, [])) (hT : TabOK y.cls rt cc tab) (hfin : tab.all (finOK mL false) = true) (hy : plainName y.cls = true) (h0 : pcAt tab 0 = 0) (hw : Nat.ble (argW as) mL = true)
    (body : ∀ P : KN, (∀ i ls st σ, run (true, g) (callP G (true, g) l (d+1)) tab labs P N X 1000 i ls st σ → P i ls st σ) → P 0 (lsOf mL as) [] s0) : XC G g l (d+1) mi as s0 N X :=
  CT_intro tab labs false hq hT hfin rfl hy (fun _ _ => rfl) h0 hw body
theorem xcall {G : CX} {g : GX} {l : Launch} {d mi : Nat} {as : List AV} {s : AS} {N kn : Option AV → AS → Prop} {X kx : AS → Prop} (h : XC G g l d mi as s N X) (hn : ∀ r s', N r s' → kn r s') (hx : ∀ s', X s' → kx s') : callP G (true, g) l (d+1) mi as s kn kx := ⟨N, X, h, hn, hx⟩
def bA (tp : List Nat) (k : Nat) : Int32 := match tp[k]? with
  | some c => nI c
  | none => - nI 1
def XRr (tp : List Nat) (σ : AS) : Prop := XTb tp σ ∧ gI σ 9 1 = nI tp.length
theorem sI_sI (σ : AS) (a k : Nat) (u v : Int32) : sI (sI σ a k u) a k v = sI σ a k v := by
  unfold sI
  congr 1
  funext b j
  by_cases e : b = a ∧ j = k
  · rw [if_pos e, if_pos e]
  · rw [if_neg e, if_neg e]; show (if b = a ∧ j = k then u else σ.1 b j) = _; rw [if_neg e]
theorem sI_id (σ : AS) (a k : Nat) : sI σ a k (gI σ a k) = σ := by
  unfold sI
  have : (fun b j => if b = a ∧ j = k then gI σ a k else σ.1 b j) = σ.1 := by
    funext b j
    by_cases e : b = a ∧ j = k
    · rw [if_pos e, e.1, e.2]; rfl
    · rw [if_neg e]
  rw [this]
theorem XRr.at2 {tp : List Nat} {σ : AS} (h : XRr tp σ) {k : Nat} (hk : k ≠ 1) (v : Int32) : XRr tp (sI σ 9 k v) := by
  refine ⟨⟨h.1.1, fun j x hx => ?_⟩, ?_⟩
  · rw [gI_sI, if_neg (by omega)]; exact h.1.2 j x hx
  · rw [gI_sI, if_neg (by omega)]; exact h.2
section DO_
variable (G : CX) (g : GX) (l : Launch) (d : Nat) (σ : AS)
theorem x_isL (x : Int32) : MC G g l (d+1) mX0_isLetter [iv x] σ (fun r t => r = some (iv (bI (decide (nI 97 ≤ x ∧ x ≤ nI 122)))) ∧ t = σ) := by
  refine MC0 tX0_isLetter rfl okX0_isLetter rfl rfl rfl rfl (fun P => And.intro (fun q => ⟨nar0, ?_, rfl⟩) (fun q => And.intro (fun q2 => ⟨nar0, ?_, rfl⟩) (fun q2 => ⟨nar1, ?_, rfl⟩)))
  · have q : x < nI 97 := q
    rw [decide_eq_false (fun z => by have z := z.1; rw [Int32.le_iff_toInt_le] at z; rw [Int32.lt_iff_toInt_lt] at q; omega)]; rfl
  · have q2 : nI 122 < x := q2
    rw [decide_eq_false (fun z => by have z := z.2; rw [Int32.le_iff_toInt_le] at z; rw [Int32.lt_iff_toInt_lt] at q2; omega)]; rfl
  · have q : ¬ x < nI 97 := q
    have q2 : ¬ nI 122 < x := q2
    rw [Int32.lt_iff_toInt_lt] at q q2
    rw [decide_eq_true ⟨by rw [Int32.le_iff_toInt_le]; omega, by rw [Int32.le_iff_toInt_le]; omega⟩]; rfl
theorem x_isD (x : Int32) : MC G g l (d+1) mX0_isDigit [iv x] σ (fun r t => r = some (iv (bI (decide (nI 48 ≤ x ∧ x ≤ nI 57)))) ∧ t = σ) := by
  refine MC0 tX0_isDigit rfl okX0_isDigit rfl rfl rfl rfl (fun P => And.intro (fun q => ⟨nar0, ?_, rfl⟩) (fun q => And.intro (fun q2 => ⟨nar0, ?_, rfl⟩) (fun q2 => ⟨nar1, ?_, rfl⟩)))
  · have q : x < nI 48 := q
    rw [decide_eq_false (fun z => by have z := z.1; rw [Int32.le_iff_toInt_le] at z; rw [Int32.lt_iff_toInt_lt] at q; omega)]; rfl
  · have q2 : nI 57 < x := q2
    rw [decide_eq_false (fun z => by have z := z.2; rw [Int32.le_iff_toInt_le] at z; rw [Int32.lt_iff_toInt_lt] at q2; omega)]; rfl
  · have q : ¬ x < nI 48 := q
    have q2 : ¬ nI 57 < x := q2
    rw [Int32.lt_iff_toInt_lt] at q q2
    rw [decide_eq_true ⟨by rw [Int32.le_iff_toInt_le]; omega, by rw [Int32.le_iff_toInt_le]; omega⟩]; rfl
theorem bA_L {tp : List Nat} {k : Nat} (h : ∀ x ∈ tp, x < 256) : decide (nI 97 ≤ bA tp k ∧ bA tp k ≤ nI 122) = isAt isL tp k := by
  unfold bA isAt
  cases hc : tp[k]? with
  | none => decide
  | some c =>
    have := h c (List.mem_of_getElem? hc)
    show decide (nI 97 ≤ nI c ∧ nI c ≤ nI 122) = decide _
    apply decide_eq_decide.mpr
    rw [nI_leI (by omega) (by omega), nI_leI (by omega) (by omega)]
theorem bA_D {tp : List Nat} {k : Nat} (h : ∀ x ∈ tp, x < 256) : decide (nI 48 ≤ bA tp k ∧ bA tp k ≤ nI 57) = isAt isD tp k := by
  unfold bA isAt
  cases hc : tp[k]? with
  | none => decide
  | some c =>
    have := h c (List.mem_of_getElem? hc)
    show decide (nI 48 ≤ nI c ∧ nI c ≤ nI 57) = decide _
    apply decide_eq_decide.mpr
    rw [nI_leI (by omega) (by omega), nI_leI (by omega) (by omega)]
theorem XTb.lt {tp : List Nat} {σ : AS} (h : XTb tp σ) : ∀ x ∈ tp, x < 256 := fun x hx => by
  obtain ⟨k, hk⟩ := List.mem_iff_getElem?.mp hx
  exact (h.2 k x hk).2
theorem x2_byteAt (tp : List Nat) (h : XRr tp σ) (x : Int32) (k : Nat) (hx : x = nI k) (hk : k ≤ 100000) : MC G g l (d+1) mX2_byteAt [tR, iv x] σ (fun r t => r = some (iv (bA tp k)) ∧ t = σ) := by
  subst hx
  have hl := h.1.1
  refine MC1 tX2_byteAt [11] rfl okX2_byteAt rfl rfl rfl rfl (fun P hP => hP _ _ _ _ ?_)
  refine And.intro (fun q => absurd (show nI k < nI 0 from q) (by rw [nI_ltI (by omega) (by omega)]; omega)) (fun _ => And.intro (fun q => ⟨?_, rfl⟩) (fun q => ?_))
  · have q : gI σ 9 1 ≤ nI k := q
    rw [h.2, nI_leI (by omega) (by omega)] at q
    unfold bA
    rw [List.getElem?_eq_none_iff.mpr q]
  · have q : ¬ gI σ 9 1 ≤ nI k := q
    rw [h.2, nI_leI (by omega) (by omega)] at q
    obtain ⟨c, hc⟩ : ∃ c, tp[k]? = some c := ⟨_, List.getElem?_eq_getElem (by omega)⟩
    refine And.intro (show vp_in (nI k) 1600 from vinN (by omega) (by decide)) ?_
    show P 11 [some tR, some (iv (nI k))] [iv (gI σ 8 (nI k).toNatClampNeg)] σ
    rw [clN (by omega), (h.1.2 k c hc).1]
    refine hP _ _ _ _ ⟨?_, rfl⟩
    show some (iv (bS c &&& nI 255)) = _
    rw [bS_and (h.1.2 k c hc).2]
    unfold bA
    rw [hc]
theorem x2_byteAtM (tp : List Nat) (h : XRr tp σ) : MC G g l (d+1) mX2_byteAt [tR, iv (- nI 1)] σ (fun r t => r = some (iv (- nI 1)) ∧ t = σ) := by
  refine MC1 tX2_byteAt [11] rfl okX2_byteAt rfl rfl rfl rfl (fun P hP => hP _ _ _ _ ?_)
  exact And.intro (fun _ => ⟨rfl, rfl⟩) (fun q => absurd (show - nI 1 < nI 0 by decide) q)
theorem skp_step (tp : List Nat) (a : Nat) (h : isAt isB tp a = true) : skp tp a = skp tp (a+1) := by
  have hl := isAt_lt h
  unfold skp endE
  obtain ⟨m, hm⟩ : ∃ m, tp.length - a = m + 1 := ⟨tp.length - a - 1, by omega⟩
  rw [hm, show tp.length - (a + 1) = m by omega]
  show (if _ then _ else _) = _
  rw [if_pos h]
theorem skp_stop (tp : List Nat) (a : Nat) (h : isAt isB tp a = false) : skp tp a = a := by
  unfold skp endE
  cases hm : tp.length - a with
  | zero => rfl
  | succ m =>
    show (if _ then _ else _) = _
    rw [if_neg (by rw [h]; decide)]
theorem bA_B {tp : List Nat} {k : Nat} (h : ∀ x ∈ tp, x < 256) : isAt isB tp k = (decide (bA tp k = nI 32) || decide (bA tp k = nI 10)) := by
  unfold bA isAt
  cases hc : tp[k]? with
  | none => decide
  | some c =>
    have := h c (List.mem_of_getElem? hc)
    show decide (c = 10 ∨ c = 32) = (decide (nI c = nI 32) || decide (nI c = nI 10))
    rw [← Bool.decide_or]
    apply decide_eq_decide.mpr
    rw [nI_eq (by omega) (by omega), nI_eq (by omega) (by omega)]
    omega
set_option maxHeartbeats 1000000 in
theorem x2_here (tp : List Nat) (h : XRr tp σ) (a : Nat) (ha : gI σ 9 2 = nI a) (hal : a ≤ tp.length) : MC G g l (d+2) mX2_here [tR] σ (fun r t => r = some (iv (bA tp (skp tp a))) ∧ t = sI σ 9 2 (nI (skp tp a))) := by
  have hl := h.1.1
  have h25 := h.1.lt
  refine MC1 tX2_here [0, 12, 19] rfl okX2_here rfl rfl rfl rfl (fun P hP => ?_)
  have fin : ∀ (a' : Nat), a' ≤ tp.length → skp tp a = a' → P 19 [some tR] [] (sI σ 9 2 (nI a')) := by
    intro a' hm he
    refine hP _ _ _ _ ?_
    refine mcall (x2_byteAt G g l d _ tp (h.at2 (k := 2) (by decide) _) _ a' (show gI (sI σ 9 2 (nI a')) 9 2 = _ by rw [gI_sI, if_pos ⟨rfl, rfl⟩]) (by omega)) (fun r s1 h9 => ?_)
    obtain ⟨rfl, e9⟩ := h9
    exact ⟨by rw [he], by rw [e9, he]⟩
  have key : ∀ (m a' : Nat), a' + m = tp.length → skp tp a = skp tp a' → P 0 [some tR] [] (sI σ 9 2 (nI a')) := by
    intro m
    induction m with
    | zero =>
      intro a' hm he
      have hb : isAt isB tp a' = false := by
        cases hh : isAt isB tp a' with
        | false => rfl
        | true => have := isAt_lt hh; omega
      rw [skp_stop tp a' hb] at he
      rw [bA_B h25, Bool.or_eq_false_iff] at hb
      have b1 := of_decide_eq_false hb.1
      have b2 := of_decide_eq_false hb.2
      refine hP _ _ _ _ ?_
      refine mcall (x2_byteAt G g l d _ tp (h.at2 (k := 2) (by decide) _) _ a' (show gI (sI σ 9 2 (nI a')) 9 2 = _ by rw [gI_sI, if_pos ⟨rfl, rfl⟩]) (by omega)) (fun r s1 h9 => ?_)
      obtain ⟨rfl, e9⟩ := h9
      subst e9
      refine And.intro (fun q => absurd q b1) (fun _ => ?_)
      refine mcall (x2_byteAt G g l d _ tp (h.at2 (k := 2) (by decide) _) _ a' (show gI (sI σ 9 2 (nI a')) 9 2 = _ by rw [gI_sI, if_pos ⟨rfl, rfl⟩]) (by omega)) (fun r s1 h9 => ?_)
      obtain ⟨rfl, e9⟩ := h9
      subst e9
      exact And.intro (fun _ => fin a' (by omega) he) (fun q => absurd q b2)
    | succ m ih =>
      intro a' hm he
      have b0 := bA_B (k := a') h25
      have by_ := fun (_ _ : Unit) => x2_byteAt G g l d (sI σ 9 2 (nI a')) tp (h.at2 (k := 2) (by decide) _) (gI (sI σ 9 2 (nI a')) 9 2) a' (by rw [gI_sI, if_pos ⟨rfl, rfl⟩]) (by omega)
      cases hb : isAt isB tp a' with
      | false =>
        rw [skp_stop tp a' hb] at he
        rw [hb] at b0
        have b0 := (Bool.or_eq_false_iff.mp b0.symm)
        have b1 := of_decide_eq_false b0.1
        have b2 := of_decide_eq_false b0.2
        refine hP _ _ _ _ ?_
        refine mcall (by_ () ()) (fun r s1 h9 => ?_)
        obtain ⟨rfl, e9⟩ := h9
        subst e9
        refine And.intro (fun q => absurd q b1) (fun _ => ?_)
        refine mcall (by_ () ()) (fun r s1 h9 => ?_)
        obtain ⟨rfl, e9⟩ := h9
        subst e9
        exact And.intro (fun _ => fin a' (by omega) he) (fun q => absurd q b2)
      | true =>
        rw [skp_step tp a' hb] at he
        rw [hb] at b0
        have next : P 12 [some tR] [] (sI σ 9 2 (nI a')) := by
          refine hP _ _ _ _ ?_
          show P 0 [some tR] [] (sI (sI σ 9 2 (nI a')) 9 2 (gI (sI σ 9 2 (nI a')) 9 2 + nI 1))
          rw [sI_sI, gI_sI, if_pos ⟨rfl, rfl⟩, nI_add]
          exact ih (a'+1) (by omega) he
        refine hP _ _ _ _ ?_
        refine mcall (by_ () ()) (fun r s1 h9 => ?_)
        obtain ⟨rfl, e9⟩ := h9
        subst e9
        refine And.intro (fun _ => next) (fun q => ?_)
        have q : ¬ bA tp a' = nI 32 := q
        rw [decide_eq_false q, Bool.false_or] at b0
        have b2 := of_decide_eq_true b0.symm
        refine mcall (by_ () ()) (fun r s1 h9 => ?_)
        obtain ⟨rfl, e9⟩ := h9
        subst e9
        exact And.intro (fun q2 => absurd b2 q2) (fun _ => next)
  have := key (tp.length - a) a (by omega) rfl
  rw [← ha, sI_id] at this
  exact this
/-- what is thrown: kind and place in the fault -/
def wS (σ : AS) (k p : Nat) : AS := sI (sI σ 10 6 (nI k)) 10 7 (nI p)
theorem x2_wrong (x y : Int32) (k p : Nat) (hx : x = nI k) (hy : y = nI p) : MC G g l (d+1) mX2_wrong [tR, iv x, iv y] σ (fun r t => r = some (rf 10) ∧ t = wS σ k p) := by
  subst hx; subst hy
  exact MC0 tX2_wrong rfl okX2_wrong rfl rfl rfl rfl (fun P => ⟨rfl, rfl⟩)
theorem x2_most (b : Bool) (y : Int32) (p : Nat) (hy : y = nI p) : XC G g l (d+2) mX2_most [tR, iv (bI b), iv y] σ (fun r t => b = false ∧ r = none ∧ t = σ) (fun t => b = true ∧ t = wS σ 5 p) := by
  subst hy
  refine XC1 tX2_most [6] rfl okX2_most rfl rfl rfl rfl (fun P hP => hP _ _ _ _ ?_)
  cases b with
  | false => exact And.intro (fun _ => ⟨rfl, rfl, rfl⟩) (fun q => absurd rfl q)
  | true =>
    refine And.intro (fun q => absurd q (by decide)) (fun _ => ?_)
    refine mcall (x2_wrong G g l d σ _ _ 5 p rfl rfl) (fun r s1 h9 => ?_)
    obtain ⟨rfl, e9⟩ := h9
    show P 6 [some tR, some (iv (bI true)), some (iv (nI p))] [rf 10] s1
    exact hP _ _ _ _ ⟨rfl, e9⟩
theorem x2_opens (op p : Nat) (hop : gI σ 9 4 = nI op) (h6 : op ≤ 6) (y : Int32) (hy : y = nI p) : XC G g l (d+2) mX2_opens [tR, iv y] σ (fun r t => op < 6 ∧ r = none ∧ t = sI σ 9 4 (nI (op + 1))) (fun t => op = 6 ∧ t = wS σ 4 p) := by
  subst hy
  refine XC1 tX2_opens [3, 8, 14] rfl okX2_opens rfl rfl rfl rfl (fun P hP => hP _ _ _ _ ?_)
  show P 3 [some tR, some (iv (nI p))] [iv (nI 6), iv (gI σ 9 4)] σ
  rw [hop]
  refine hP _ _ _ _ (And.intro (fun q => ?_) (fun q => ?_))
  · have q : ¬ nI op = nI 6 := q
    rw [nI_eq (by omega) (by omega)] at q
    show P 14 [some tR, some (iv (nI p))] [iv (gI σ 9 4 + nI 1), tR] σ
    rw [hop, nI_add]
    exact hP _ _ _ _ ⟨by omega, rfl, rfl⟩
  · have q : nI op = nI 6 := q
    rw [nI_eq (by omega) (by omega)] at q
    refine mcall (x2_wrong G g l d σ _ _ 4 p rfl rfl) (fun r s1 h9 => ?_)
    obtain ⟨rfl, e9⟩ := h9
    show P 8 [some tR, some (iv (nI p))] [rf 10] s1
    exact hP _ _ _ _ ⟨q, e9⟩
theorem bA_eq {tp : List Nat} {k c : Nat} (h : ∀ x ∈ tp, x < 256) (hc : c < 256) : bA tp k = nI c ↔ tp[k]? = some c := by
  unfold bA
  cases hk : tp[k]? with
  | none =>
    refine ⟨fun e => ?_, fun e => by cases e⟩
    have e : - nI 1 = nI c := e
    exact absurd e.symm (nI_neg1 (by omega))
  | some x =>
    have := h x (List.mem_of_getElem? hk)
    show nI x = nI c ↔ some x = some c
    rw [nI_eq (by omega) (by omega)]
    exact ⟨fun e => by rw [e], fun e => Option.some.inj e⟩
theorem x2_must (tp : List Nat) (h : XRr tp σ) (a : Nat) (ha : gI σ 9 2 = nI a) (hal : a ≤ tp.length) (y : Int32) (c : Nat) (hy : y = nI c) (hc : c < 256) : XC G g l (d+3) mX2_must [tR, iv y] σ (fun r t => tp[skp tp a]? = some c ∧ r = none ∧ t = sI σ 9 2 (nI (skp tp a + 1))) (fun t => tp[skp tp a]? ≠ some c ∧ t = wS (sI σ 9 2 (nI (skp tp a))) 1 (skp tp a)) := by
  subst hy
  have h25 := h.1.lt
  refine XC1 tX2_must [2, 8, 9, 15] rfl okX2_must rfl rfl rfl rfl (fun P hP => hP _ _ _ _ ?_)
  refine mcall (x2_here G g l d σ tp h a ha hal) (fun r s1 h9 => ?_)
  obtain ⟨rfl, e9⟩ := h9
  have g9 : gI s1 9 2 = nI (skp tp a) := by rw [e9, gI_sI, if_pos ⟨rfl, rfl⟩]
  show P 2 [some tR, some (iv (nI c))] [iv (bA tp (skp tp a))] s1
  refine hP _ _ _ _ (And.intro (fun q => ?_) (fun q => ?_))
  · have q := (bA_eq h25 hc).mp q
    show P 15 [some tR, some (iv (nI c))] [iv (gI s1 9 2 + nI 1), tR] s1
    rw [g9, nI_add]
    refine hP _ _ _ _ ⟨q, rfl, ?_⟩
    show sI s1 9 2 (nI (skp tp a + 1)) = _
    rw [e9, sI_sI]
  · have q : ¬ bA tp (skp tp a) = nI c := q
    rw [bA_eq h25 hc] at q
    show P 8 [some tR, some (iv (nI c))] [iv (gI s1 9 2), iv (nI 1), tR] s1
    refine hP _ _ _ _ ?_
    refine mcall (x2_wrong G g l (d+1) s1 _ _ 1 (skp tp a) rfl g9) (fun r s2 h9 => ?_)
    obtain ⟨rfl, f9⟩ := h9
    show P 9 [some tR, some (iv (nI c))] [rf 10] s2
    exact hP _ _ _ _ ⟨q, by rw [f9, e9]⟩
theorem x2_takes (tp : List Nat) (h : XRr tp σ) (a : Nat) (ha : gI σ 9 2 = nI a) (hal : a ≤ tp.length) (y : Int32) (c : Nat) (hy : y = nI c) (hc : c < 256) : MC G g l (d+3) mX2_takes [tR, iv y] σ (fun r t => r = some (iv (bI (decide (tp[skp tp a]? = some c)))) ∧ t = sI σ 9 2 (nI (if tp[skp tp a]? = some c then skp tp a + 1 else skp tp a))) := by
  subst hy
  have h25 := h.1.lt
  refine MC1 tX2_takes [2, 8, 11, 16, 17] rfl okX2_takes rfl rfl rfl rfl (fun P hP => hP _ _ _ _ ?_)
  refine mcall (x2_here G g l d σ tp h a ha hal) (fun r s1 h9 => ?_)
  obtain ⟨rfl, e9⟩ := h9
  have g9 : gI s1 9 2 = nI (skp tp a) := by rw [e9, gI_sI, if_pos ⟨rfl, rfl⟩]
  show P 2 [some tR, some (iv (nI c)), none] [iv (bA tp (skp tp a))] s1
  refine hP _ _ _ _ (And.intro (fun q => ?_) (fun q => ?_))
  · have q : ¬ bA tp (skp tp a) = nI c := q
    rw [bA_eq h25 hc] at q
    show P 8 [some tR, some (iv (nI c)), some (iv (nI 0))] [] s1
    refine hP _ _ _ _ ?_
    show P 11 [some tR, some (iv (nI c)), some (iv (nI 0))] [iv (gI s1 9 2), tR] s1
    rw [g9]
    refine hP _ _ _ _ (And.intro (fun _ => ?_) (fun q => absurd rfl q))
    show P 16 [some tR, some (iv (nI c)), some (iv (nI 0))] [iv (nI 0), iv (nI (skp tp a)), tR] s1
    refine hP _ _ _ _ ?_
    show P 17 [some tR, some (iv (nI c)), some (iv (nI 0))] [iv (nI (skp tp a) + nI 0), tR] s1
    rw [nI_add, Nat.add_zero]
    refine hP _ _ _ _ ⟨nar0, by rw [decide_eq_false q]; rfl, ?_⟩
    rw [if_neg q]
    show sI s1 9 2 (nI (skp tp a)) = _
    rw [e9, sI_sI]
  · have q := (bA_eq h25 hc).mp q
    show P 8 [some tR, some (iv (nI c)), some (iv (nI 1))] [] s1
    refine hP _ _ _ _ ?_
    show P 11 [some tR, some (iv (nI c)), some (iv (nI 1))] [iv (gI s1 9 2), tR] s1
    rw [g9]
    refine hP _ _ _ _ (And.intro (fun q => absurd q (by decide)) (fun _ => ?_))
    show P 16 [some tR, some (iv (nI c)), some (iv (nI 1))] [iv (nI 1), iv (nI (skp tp a)), tR] s1
    refine hP _ _ _ _ ?_
    show P 17 [some tR, some (iv (nI c)), some (iv (nI 1))] [iv (nI (skp tp a) + nI 1), tR] s1
    rw [nI_add]
    refine hP _ _ _ _ ⟨nar1, by rw [decide_eq_true q]; rfl, ?_⟩
    rw [if_pos q]
    show sI s1 9 2 (nI (skp tp a + 1)) = _
    rw [e9, sI_sI]
end DO_
