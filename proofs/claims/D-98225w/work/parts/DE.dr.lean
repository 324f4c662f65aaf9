/-! doctors, in the component -/
def dIds : List Nat := [14, 58, 59, 68, 69, 70, 71, 72, 73, 74, 75, 76]
theorem dIds_row {k : Nat} (h : k < 9) : dIds.contains (68 + k) = true := by
  have h1 : ∀ k : Fin 9, dIds.contains (68 + k.val) = true := by decide
  exact h1 ⟨k, h⟩
theorem orO_map {X Y : Type} (t : X → Y) (a b : Option X) : (orO a b).map t = orO (a.map t) (b.map t) := by cases a <;> rfl
theorem docF_dL (T : Twn) (R : Nat → Nat → Int32) : (docF (enough T R) (Tnp T)).map dL = orO (orO (srvF (svd T R) (Tnp T) 1 0 []) (srvF (svd T R) (Tnp T) 2 0 [])) (srvF (svd T R) (Tnp T) 3 0 []) := by
  rw [srv_1, srv_2, srv_3]
  unfold docF
  rw [orO_map, orO_map]
def dOK (np : Nat) (x : Dct) : Prop := dL x ∈ allP ∧ (dL x).length = x.1 ∧ (∀ j, j < x.1 → (dL x)[j]? = some (if j = 0 then x.2.1 else if j = 1 then x.2.2.1 else x.2.2.2)) ∧ ∀ p ∈ dL x, p < np
theorem orO_some {X : Type} {a b : Option X} {x : X} (h : orO a b = some x) : a = some x ∨ b = some x := by
  cases a with
  | none => exact Or.inr h
  | some y => exact Or.inl h
theorem docF_ok {E : Nat → Nat → Nat → Bool} {np : Nat} {x : Dct} (hn : np ≤ 9) (h : docF E np = some x) : dOK np x := by
  rcases orO_some h with h | h
  · rcases orO_some h with h | h
    · obtain ⟨a, h1, h2, h3⟩ := findF_some _ _ _ _ h
      have h3 : (if E a a a = true then some (1, a, a, a) else none) = some x := h3
      split at h3
      · cases h3
        refine ⟨show [a] ∈ allP from allP_1 (by omega), rfl, fun j hj => ?_, fun p hp => ?_⟩
        · have : j = 0 := by have : j < 1 := hj; omega
          subst this; rfl
        · have : p = a := by simpa [dL] using hp
          omega
      · cases h3
    · obtain ⟨a, h1, h2, h3⟩ := findF_some _ _ _ _ h
      obtain ⟨b, h4, h5, h6⟩ := findF_some _ _ _ _ h3
      have h3 : (if E a b b = true then some (2, a, b, b) else none) = some x := h6
      split at h3
      · cases h3
        refine ⟨show [a, b] ∈ allP from allP_2 (by omega) (by omega), rfl, fun j hj => ?_, fun p hp => ?_⟩
        · have : j = 0 ∨ j = 1 := by have : j < 2 := hj; omega
          rcases this with rfl | rfl <;> rfl
        · have : p = a ∨ p = b := by simpa [dL] using hp
          omega
      · cases h3
  · obtain ⟨a, h1, h2, h3⟩ := findF_some _ _ _ _ h
    obtain ⟨b, h4, h5, h6⟩ := findF_some _ _ _ _ h3
    obtain ⟨c, h7, h8, h9⟩ := findF_some _ _ _ _ h6
    have h3 : (if E a b c = true then some (3, a, b, c) else none) = some x := h9
    split at h3
    · cases h3
      refine ⟨show [a, b, c] ∈ allP from allP_3 (by omega) (by omega) (by omega), rfl, fun j hj => ?_, fun p hp => ?_⟩
      · have : j = 0 ∨ j = 1 ∨ j = 2 := by have : j < 3 := hj; omega
        rcases this with rfl | rfl | rfl <;> rfl
      · have : p = a ∨ p = b ∨ p = c := by simpa [dL] using hp
        omega
    · cases h3
def okD2 (T : Twn) (a b : Int32) : Bool := btw a 1 99 && (btw b 0 400 && decide (Tnp T ≠ 0))
def docL (c : Int32) (o : Option (List Nat)) : Int32 := match o with
  | none => - nI 1
  | some pre => if c = - nI 1 then nI pre.length else if inR c pre.length = true then nI ((pre[c.toNatClampNeg]?).getD 0) else - nI 1
theorem q_doc2 (T : Twn) (hT : TOK T) (n : Nws) (a b c : Int32) : q_doctors T n a b c = if okD2 T a b = true then docL c ((docF (enough T (rchS T n a.toNatClampNeg b.toNatClampNeg)) (Tnp T)).map dL) else - nI 1 := by
  have h12 := hT.1
  unfold q_doctors
  generalize ho : docF (enough T (rchS T n a.toNatClampNeg b.toNatClampNeg)) (Tnp T) = o
  have e : okDoc T a b c = (okD2 T a b && (decide (c = - nI 1) || inR c 3)) := by unfold okDoc okD2; rw [Bool.and_assoc, Bool.and_assoc]
  rw [e]
  cases h2 : okD2 T a b with
  | false => rfl
  | true =>
    rw [Bool.true_and, if_pos rfl]
    cases o with
    | none => split <;> rfl
    | some x =>
      obtain ⟨d1, d2, d3, d4⟩ := docF_ok (by omega) ho
      obtain ⟨a1, a2, a3, a4⟩ := allP_in _ d1
      show (if _ then (if c = - nI 1 then nI x.1 else if c.toNatClampNeg < x.1 then nI (if c.toNatClampNeg = 0 then x.2.1 else if c.toNatClampNeg = 1 then x.2.2.1 else x.2.2.2) else - nI 1) else - nI 1) = (if c = - nI 1 then nI (dL x).length else if inR c (dL x).length = true then nI (((dL x)[c.toNatClampNeg]?).getD 0) else - nI 1)
      by_cases hc : c = - nI 1
      · rw [decide_eq_true hc, Bool.true_or, if_pos rfl, if_pos hc, if_pos hc, d2]
      · rw [decide_eq_false hc, Bool.false_or, if_neg hc, if_neg hc, d2]
        cases hi : inR c 3 with
        | true =>
          obtain ⟨j, hj, rfl⟩ := inR_of hi (by omega)
          rw [if_pos rfl, clN (by omega)]
          by_cases hjx : j < x.1
          · rw [if_pos hjx, if_pos (show inR (nI j) x.1 = true from decide_eq_true (by rw [nI_toInt (by omega)]; omega)), d3 j hjx]
            rfl
          · rw [if_neg hjx, if_neg (fun z => hjx (by have z := of_decide_eq_true z; rw [nI_toInt (by omega)] at z; omega))]
        | false =>
          have hn : ¬ inR c x.1 = true := fun z => by
            have z := of_decide_eq_true z
            have : inR c 3 = true := decide_eq_true (by omega)
            rw [hi] at this
            cases this
          rw [if_neg hn]
          rfl
/-- the k-th of a row, sought with a count that goes down -/
theorem docL_hit {pre : List Nat} (hp : pre ∈ allP) {p : Nat} (h9 : p < 9) (hm : p ∈ pre) : docL (nI (cntL pre p)) (some pre) = nI p := by
  obtain ⟨a1, a2, a3, a4⟩ := allP_in _ hp
  have h1 := (allP_cnt pre hp p h9).1 hm
  have hl := (List.getElem?_eq_some_iff.mp h1).1
  show (if _ then _ else if _ then _ else _) = _
  rw [if_neg (nI_neg1 (by omega)), if_pos (show inR (nI (cntL pre p)) pre.length = true from decide_eq_true (by rw [nI_toInt (by omega)]; omega)), clN (by omega), h1]
  rfl
theorem docL_miss {pre : List Nat} {c : Int32} (hl : pre.length ≤ 3) (hc : ¬ c = - nI 1) (h : ∀ j, j < pre.length → c ≠ nI j) : docL c (some pre) = - nI 1 := by
  show (if _ then _ else if _ then _ else _) = _
  rw [if_neg hc, if_neg (fun z => by
    obtain ⟨j, hj, e⟩ := inR_of z (by omega)
    exact h j hj e)]
theorem cntL_all {pre : List Nat} {m : Nat} (h : ∀ p ∈ pre, p < m) : cntL pre m = pre.length := by
  unfold cntL
  exact List.countP_eq_length.mpr (fun p hp => decide_eq_true (h p hp))
theorem sub_zero_iff {c : Int32} {j : Nat} : c - nI j = nI 0 ↔ c = nI j := by
  constructor
  · intro h
    have : c - nI j + nI j = nI 0 + nI j := by rw [h]
    rw [Int32.sub_add_cancel] at this
    rw [this]
    show 0 + nI j = nI j
    exact Int32.zero_add _
  · intro h
    rw [h]
    exact Int32.sub_self _
theorem sub_nI1 (c : Int32) (j : Nat) : c - nI j - nI 1 = c - nI (j+1) := by
  rw [← nI_add j 1, Int32.sub_sub]
theorem beq_no {a b : Nat} (h : a ≠ b) : Nat.beq a b = false := by
  cases hh : Nat.beq a b with
  | false => rfl
  | true => exact absurd (Nat.eq_of_beq_eq_true hh) h
