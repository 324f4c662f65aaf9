/-! DOCTORS, plain: reached in time by a nearer horizon; who serves, in the component's row -/
theorem least_ex {P : Nat → Prop} : ∀ (t : Nat), P t → ∃ m, P m ∧ ∀ s, P s → m ≤ s := by
  intro t
  induction t using Nat.strongRecOn with
  | _ t ih =>
    intro ht
    by_cases h : ∃ s, s < t ∧ P s
    · obtain ⟨s, h1, h2⟩ := h
      exact ih s h1 h2
    · exact ⟨t, ht, fun s hs => by
        rcases Nat.lt_or_ge s t with z | z
        · exact absurd ⟨s, z, hs⟩ h
        · exact z⟩
theorem Ach.bound {T : Twn} {n : Nws} {rs : List Ride} {wo b lp src hr : Nat} : ∀ (k q t : Nat), Ach T n rs wo b lp src hr k q t → t ≤ max hr lp ∧ hr ≤ t
  | 0, q, t, h => by rw [h.2]; omega
  | k+1, q, t, h => by
    obtain ⟨s, p, t', h', h1, -, h3, -, h5, h6⟩ := h
    have := Ach.bound k p t' h1
    omega
theorem EA_ex9 (T : Twn) (n : Nws) (rs : List Ride) (wo b lp src hr : Nat) (hlp : lp ≤ 900000) (hr9 : hr ≤ 900000) : IsEA T n rs wo b lp src hr (EAf T n rs wo b lp src hr) ∧ ∀ q, EAf T n rs wo b lp src hr q ≤ NV := by
  have hx : ∀ q, ∃ v, v ≤ NV ∧ (v ≠ NV → ∃ k, Ach T n rs wo b lp src hr k q v) ∧ (∀ k t, Ach T n rs wo b lp src hr k q t → v ≤ t) := by
    intro q
    by_cases h : ∃ t k, Ach T n rs wo b lp src hr k q t
    · obtain ⟨t, ht⟩ := h
      obtain ⟨v, ⟨k, hv⟩, hm⟩ := least_ex (P := fun t => ∃ k, Ach T n rs wo b lp src hr k q t) t ht
      have := Ach.bound k q v hv
      exact ⟨v, by unfold NV; omega, fun _ => ⟨k, hv⟩, fun k t hk => hm t ⟨k, hk⟩⟩
    · exact ⟨NV, Nat.le_refl _, fun z => absurd rfl z, fun k t hk => absurd ⟨t, k, hk⟩ h⟩
  have hA : IsEA T n rs wo b lp src hr (fun q => Classical.choose (hx q)) := fun q _ => (Classical.choose_spec (hx q)).2
  have := EAf_eq hA (fun q _ => (Classical.choose_spec (hx q)).1)
  exact this.2
theorem Ach.cut {T : Twn} {n : Nws} {rs : List Ride} {wo b lp lp2 src hr : Nat} : ∀ (k q t : Nat), Ach T n rs wo b lp src hr k q t → t < lp2 → Ach T n rs wo b lp2 src hr k q t
  | 0, q, t, h, _ => h
  | k+1, q, t, h, hl => by
    obtain ⟨s, p, t', h', h1, h2, h3, h4, h5, h6⟩ := h
    exact ⟨s, p, t', h', Ach.cut k p t' h1 (by omega), h2, h3, h4, by omega, h6⟩
theorem rch_eq {T : Twn} {n : Nws} {b wi p hr q : Nat} (hwi : wi ≤ 400) (hh : hr ≤ 100000) (hq : q < Tnp T) : rchB T n b wi p hr q = decide (fN (EAf T n [] 99 b (hr + 401) p hr q) ≤ hr + wi) := by
  unfold rchB
  apply decide_eq_decide.mpr
  obtain ⟨e1, e2⟩ := EA_ex9 T n [] 99 b (hr + wi + 1) p hr (by omega) (by omega)
  obtain ⟨f1, f2⟩ := EA_ex9 T n [] 99 b (hr + 401) p hr (by omega) (by omega)
  constructor
  · intro h
    have hne : EAf T n [] 99 b (hr + wi + 1) p hr q ≠ NV := by unfold NV; omega
    obtain ⟨k, hk⟩ := (e1 q hq).1 hne
    have := (f1 q hq).2 k _ (Ach.cut k q _ hk (lp2 := hr + 401) (by omega))
    rw [fN_of (by unfold NV; omega)]
    omega
  · intro h
    have hne : EAf T n [] 99 b (hr + 401) p hr q ≠ NV := fun z => by rw [z, fN_NV] at h; omega
    rw [fN_of hne] at h
    obtain ⟨k, hk⟩ := (f1 q hq).1 hne
    have := (e1 q hq).2 k _ (Ach.cut k q _ hk (lp2 := hr + wi + 1) (by omega))
    omega
/-! who serves: places told in their row -/
def orR (f : Nat → Int32) : Nat → Int32
  | 0 => nI 0
  | m+1 => orR f m ||| f m
def svd (T : Twn) (R : Nat → Nat → Int32) (pre : List Nat) : Bool := allR (fun k => decide (orR (fun p => if p ∈ pre then R p k else nI 0) (Tnp T) = (nI 1 <<< (nI (Tnp T) &&& 31)) - nI 1)) 24 0
def srvF (S : List Nat → Bool) (np : Nat) : Nat → Nat → List Nat → Option (List Nat)
  | 0, _, pre => if S pre = true then some pre else none
  | m+1, fr, pre => findF (fun p => srvF S np m (p+1) (pre ++ [p])) (np - fr) fr
theorem or0 (x : Int32) : x ||| nI 0 = x := Int32.or_zero
theorem orR_1 (R : Nat → Int32) (a : Nat) : ∀ m, orR (fun p => if p ∈ [a] then R p else nI 0) m = if a < m then R a else nI 0
  | 0 => by rw [if_neg (by omega)]; rfl
  | m+1 => by
    show orR _ m ||| (if m ∈ [a] then R m else nI 0) = _
    rw [orR_1 R a m]
    by_cases e : m = a
    · subst e
      rw [if_neg (by omega), if_pos (by simp), if_pos (by omega)]
      show 0 ||| R m = R m
      exact Int32.zero_or
    · rw [if_neg (show ¬ m ∈ [a] by simpa using e), or0]
      by_cases h : a < m
      · rw [if_pos h, if_pos (by omega)]
      · rw [if_neg h, if_neg (by omega)]
theorem orR_2 (R : Nat → Int32) (a b : Nat) (hab : a < b) : ∀ m, orR (fun p => if p ∈ [a, b] then R p else nI 0) m = if b < m then R a ||| R b else if a < m then R a else nI 0
  | 0 => by rw [if_neg (by omega), if_neg (by omega)]; rfl
  | m+1 => by
    show orR _ m ||| (if m ∈ [a, b] then R m else nI 0) = _
    rw [orR_2 R a b hab m]
    by_cases e : m = a
    · subst e
      rw [if_neg (by omega), if_neg (by omega), if_pos (by simp), if_neg (by omega), if_pos (by omega)]
      show 0 ||| R m = R m
      exact Int32.zero_or
    · by_cases e2 : m = b
      · subst e2
        rw [if_neg (by omega), if_pos hab, if_pos (by simp), if_pos (by omega)]
      · rw [if_neg (show ¬ m ∈ [a, b] by simp [e, e2]), or0]
        by_cases h : b < m
        · rw [if_pos h, if_pos (by omega)]
        · rw [if_neg h, if_neg (show ¬ b < m + 1 by omega)]
          by_cases h2 : a < m
          · rw [if_pos h2, if_pos (by omega)]
          · rw [if_neg h2, if_neg (by omega)]
theorem orR_3 (R : Nat → Int32) (a b c : Nat) (hab : a < b) (hbc : b < c) : ∀ m, orR (fun p => if p ∈ [a, b, c] then R p else nI 0) m = if c < m then R a ||| R b ||| R c else if b < m then R a ||| R b else if a < m then R a else nI 0
  | 0 => by rw [if_neg (by omega), if_neg (by omega), if_neg (by omega)]; rfl
  | m+1 => by
    show orR _ m ||| (if m ∈ [a, b, c] then R m else nI 0) = _
    rw [orR_3 R a b c hab hbc m]
    by_cases e : m = a
    · subst e
      rw [if_neg (by omega), if_neg (by omega), if_neg (by omega), if_pos (by simp), if_neg (by omega), if_neg (by omega), if_pos (by omega)]
      show 0 ||| R m = R m
      exact Int32.zero_or
    · by_cases e2 : m = b
      · subst e2
        rw [if_neg (by omega), if_neg (by omega), if_pos hab, if_pos (by simp), if_neg (by omega), if_pos (by omega)]
      · by_cases e3 : m = c
        · subst e3
          rw [if_neg (by omega), if_pos hbc, if_pos (by simp), if_pos (by omega)]
        · rw [if_neg (show ¬ m ∈ [a, b, c] by simp [e, e2, e3]), or0]
          by_cases h : c < m
          · rw [if_pos h, if_pos (by omega)]
          · rw [if_neg h, if_neg (show ¬ c < m + 1 by omega)]
            by_cases h1 : b < m
            · rw [if_pos h1, if_pos (by omega)]
            · rw [if_neg h1, if_neg (show ¬ b < m + 1 by omega)]
              by_cases h2 : a < m
              · rw [if_pos h2, if_pos (by omega)]
              · rw [if_neg h2, if_neg (by omega)]
theorem allR_congr {p q : Nat → Bool} (h : ∀ k, p k = q k) (m j : Nat) : allR p m j = allR q m j := by rw [show p = q from funext h]
theorem svd_1 {T : Twn} {R : Nat → Nat → Int32} {a : Nat} (ha : a < Tnp T) : svd T R [a] = enough T R a a a := by
  unfold svd enough
  refine allR_congr (fun k => ?_) 24 0
  rw [orR_1 (fun p => R p k) a, if_pos ha, Int32.or_self, Int32.or_self]
theorem svd_2 {T : Twn} {R : Nat → Nat → Int32} {a b : Nat} (hab : a < b) (hb : b < Tnp T) : svd T R [a, b] = enough T R a b b := by
  unfold svd enough
  refine allR_congr (fun k => ?_) 24 0
  rw [orR_2 (fun p => R p k) a b hab, if_pos hb, Int32.or_assoc, Int32.or_self]
theorem svd_3 {T : Twn} {R : Nat → Nat → Int32} {a b c : Nat} (hab : a < b) (hbc : b < c) (hc : c < Tnp T) : svd T R [a, b, c] = enough T R a b c := by
  unfold svd enough
  refine allR_congr (fun k => ?_) 24 0
  rw [orR_3 (fun p => R p k) a b c hab hbc, if_pos hc]
def dL (x : Dct) : List Nat := [x.2.1, x.2.2.1, x.2.2.2].take x.1
theorem findF_map {X Y : Type} (t : Y → X) (f : Nat → Option X) (gg : Nat → Option Y) : ∀ (m a : Nat), (∀ p, a ≤ p → p < a + m → f p = (gg p).map t) → findF f m a = (findF gg m a).map t
  | 0, a, _ => rfl
  | m+1, a, h => by
    rw [findF_step, findF_step, h a (by omega) (by omega), findF_map t f gg m (a+1) (fun p h1 h2 => h p (by omega) (by omega))]
    cases gg a <;> rfl
theorem srv_1 {T : Twn} {R : Nat → Nat → Int32} : srvF (svd T R) (Tnp T) 1 0 [] = (findF (doc1 (enough T R)) (Tnp T) 0).map dL := by
  show findF _ (Tnp T - 0) 0 = _
  rw [Nat.sub_zero]
  refine findF_map dL _ _ _ _ (fun p h1 h2 => ?_)
  show (if svd T R [p] = true then some [p] else none) = _
  rw [svd_1 (by omega)]
  unfold doc1 ifO
  split <;> rfl
theorem srv_2 {T : Twn} {R : Nat → Nat → Int32} : srvF (svd T R) (Tnp T) 2 0 [] = (findF (doc2 (enough T R) (Tnp T)) (Tnp T) 0).map dL := by
  show findF _ (Tnp T - 0) 0 = _
  rw [Nat.sub_zero]
  refine findF_map dL _ _ _ _ (fun p h1 h2 => ?_)
  show findF _ (Tnp T - (p+1)) (p+1) = (findF _ _ _).map dL
  refine findF_map dL _ _ _ _ (fun b h3 h4 => ?_)
  show (if svd T R [p, b] = true then some [p, b] else none) = _
  rw [svd_2 (by omega) (by omega)]
  unfold doc2b ifO
  split <;> rfl
theorem srv_3 {T : Twn} {R : Nat → Nat → Int32} : srvF (svd T R) (Tnp T) 3 0 [] = (findF (doc3 (enough T R) (Tnp T)) (Tnp T) 0).map dL := by
  show findF _ (Tnp T - 0) 0 = _
  rw [Nat.sub_zero]
  refine findF_map dL _ _ _ _ (fun p h1 h2 => ?_)
  show findF _ (Tnp T - (p+1)) (p+1) = (findF _ _ _).map dL
  refine findF_map dL _ _ _ _ (fun b h3 h4 => ?_)
  show findF _ (Tnp T - (b+1)) (b+1) = (findF _ _ _).map dL
  refine findF_map dL _ _ _ _ (fun c h5 h6 => ?_)
  show (if svd T R [p, b, c] = true then some [p, b, c] else none) = _
  rw [svd_3 (by omega) (by omega) (by omega)]
  unfold doc3c ifO
  split <;> rfl
/-- places in their row, as bits -/
def setI (pre : List Nat) : Int32 := pre.foldl (fun s p => s ||| (nI 1 <<< (nI p &&& 31))) (nI 0)
theorem setI_snoc (pre : List Nat) (p : Nat) : setI (pre ++ [p]) = setI pre ||| (nI 1 <<< (nI p &&& 31)) := by unfold setI; rw [List.foldl_append]; rfl
theorem setI_has {s : Nat} (hs : s < 31) : ∀ (pre : List Nat), (∀ p ∈ pre, p ≤ 12) → hasB (setI pre) s = decide (s ∈ pre) := by
  intro pre
  have key : ∀ (r : List Nat) (x : Int32), (∀ p ∈ r, p ≤ 12) → hasB (r.foldl (fun s p => s ||| (nI 1 <<< (nI p &&& 31))) x) s = (hasB x s || decide (s ∈ r)) := by
    intro r
    induction r with
    | nil => intro x _; simp
    | cons a r ih =>
      intro x hr
      show hasB (r.foldl _ (x ||| (nI 1 <<< (nI a &&& 31)))) s = _
      rw [ih _ (fun p hp => hr p (List.mem_cons_of_mem _ hp)), hasB_or _ _ hs, hasB_one (hr a List.mem_cons_self) hs]
      by_cases e1 : s = a <;> by_cases e2 : s ∈ r <;> simp [e1, e2]
  intro hp
  unfold setI
  rw [key pre _ hp, hasB_nil hs, Bool.false_or]
theorem setI_ne {pre : List Nat} (h : ∀ p ∈ pre, p ≤ 12) : ¬ setI pre = - nI 1 := by
  intro e
  have h1 := setI_has (s := 20) (by omega) pre h
  rw [e, show hasB (- nI 1) 20 = true from by decide, decide_eq_false (fun z => by have := h 20 z; omega)] at h1
  cases h1
def bcF (x : Int32) : Int32 :=
  let us := fun (a : Int32) (k : Nat) => (a.toUInt32 >>> ((nI k).toUInt32 &&& Int32.toUInt32 31)).toInt32
  let a := x - (us x 1 &&& nI 1431655765)
  let b := (a &&& nI 858993459) + (us a 2 &&& nI 858993459)
  let c := b + us b 4 &&& nI 252645135
  let e := c + us c 8
  let f := e + us e 16
  f &&& nI 63
/-- the lists of one, two, three places in their row -/
def allP : List (List Nat) := (List.range 9).map (fun a => [a]) ++ (List.range 9).flatMap (fun a => (List.range 9).flatMap (fun b => if a < b then [[a, b]] else [])) ++ (List.range 9).flatMap (fun a => (List.range 9).flatMap (fun b => (List.range 9).flatMap (fun c => if a < b ∧ b < c then [[a, b, c]] else [])))
def cntL (pre : List Nat) (p : Nat) : Nat := pre.countP (fun x => decide (x < p))
theorem allP_bc : ∀ pre ∈ allP, bcF (setI pre) = nI pre.length := by decide +kernel
theorem allP_cnt : ∀ pre ∈ allP, ∀ p, p < 9 → (p ∈ pre → pre[cntL pre p]? = some p) ∧ cntL pre (p+1) = cntL pre p + (if p ∈ pre then 1 else 0) := by decide +kernel
theorem allP_in : ∀ pre ∈ allP, (∀ p ∈ pre, p < 9) ∧ 1 ≤ pre.length ∧ pre.length ≤ 3 ∧ cntL pre 0 = 0 := by decide +kernel
theorem allP_1 {a : Nat} (h : a < 9) : [a] ∈ allP := by
  have : ∀ a : Fin 9, [a.val] ∈ allP := by decide +kernel
  exact this ⟨a, h⟩
theorem allP_2 {a b : Nat} (h : b < 9) (hab : a < b) : [a, b] ∈ allP := by
  have : ∀ b : Fin 9, ∀ a : Fin 9, a.val < b.val → [a.val, b.val] ∈ allP := by decide +kernel
  exact this ⟨b, h⟩ ⟨a, by omega⟩ hab
theorem allP_3 {a b c : Nat} (h : c < 9) (hab : a < b) (hbc : b < c) : [a, b, c] ∈ allP := by
  have : ∀ c : Fin 9, ∀ b : Fin 9, ∀ a : Fin 9, a.val < b.val → b.val < c.val → [a.val, b.val, c.val] ∈ allP := by decide +kernel
  exact this ⟨c, h⟩ ⟨b, by omega⟩ ⟨a, by omega⟩ hab hbc
theorem findF_some {X : Type} (f : Nat → Option X) : ∀ (m a : Nat) (x : X), findF f m a = some x → ∃ p, a ≤ p ∧ p < a + m ∧ f p = some x
  | 0, a, x, h => by cases h
  | m+1, a, x, h => by
    rw [findF_step] at h
    cases hf : f a with
    | some y => rw [hf] at h; exact ⟨a, by omega, by omega, by rw [hf]; exact h⟩
    | none =>
      rw [hf] at h
      obtain ⟨p, h1, h2, h3⟩ := findF_some f m (a+1) x h
      exact ⟨p, by omega, by omega, h3⟩
