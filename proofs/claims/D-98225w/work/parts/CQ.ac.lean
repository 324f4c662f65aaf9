def XKp (T : Twn) (ks : List Nws) (σ : AS) : Prop := ks.length ≤ 20 ∧ gI σ 0 28 = nI ks.length ∧ (∀ i, i < 20 → StC (78 + 5 * i) σ) ∧ ∃ π : Nat → Nat, (∀ j, j < 20 → π j < 20 ∧ gR true σ 77 j = some (.inl (78 + 5 * π j))) ∧ (∀ i j, i < 20 → j < 20 → π i = π j → i = j) ∧ ∀ (j : Nat) (x : Nws), ks[j]? = some x → NOK T x ∧ XSt T x (78 + 5 * π (ks.length - 1 - j)) σ
/-- only references of the kept states have changed -/
def rz (σ τ : AS) : Prop := (∀ a k, gI τ a k = gI σ a k) ∧ (∀ a k, gL τ a k = gL σ a k) ∧ (∀ a k, a ≠ 77 → gR true τ a k = gR true σ a k) ∧ (∀ a, kd true τ a = kd true σ a) ∧ zn τ = zn σ ∧ zu τ = zu σ
theorem rz.set {σ τ : AS} (h : rz σ τ) (k : Nat) (v : AR) : rz σ (sR τ 77 k v) := ⟨h.1, h.2.1, fun a j ha => (gR_sRo (fun z => ha z.1)).trans (h.2.2.1 a j ha), h.2.2.2.1, h.2.2.2.2⟩
theorem StC.rz {c : Nat} {σ t : AS} (h : StC c σ) (hr : rz σ t) (hc : c ≠ 77) : StC c t := by
  obtain ⟨h1, h2, h3, h4, h5, r1, r2, r3, r4⟩ := h
  exact ⟨(hr.2.2.2.1 _).trans h1, (hr.2.2.2.1 _).trans h2, (hr.2.2.2.1 _).trans h3, (hr.2.2.2.1 _).trans h4, (hr.2.2.2.1 _).trans h5, (hr.2.2.1 _ _ hc).trans r1, (hr.2.2.1 _ _ hc).trans r2, (hr.2.2.1 _ _ hc).trans r3, (hr.2.2.1 _ _ hc).trans r4⟩
def kIds : List Nat := (List.range 101).map (fun i => i + 77)
theorem kIds_mem {a : Nat} (h : a ∉ kIds) : ¬ (77 ≤ a ∧ a ≤ 177) := fun z => h (List.mem_map.mpr ⟨a - 77, List.mem_range.mpr (by omega), by omega⟩)
theorem rz.y {σ τ : AS} (h : rz σ τ) : yS [28] kIds σ τ := ⟨⟨fun a k _ ha _ => ⟨h.1 a k, h.2.1 a k, h.2.2.1 a k (fun e => kIds_mem ha (by omega))⟩, fun a _ => h.2.2.2.1 a, by rw [h.2.2.2.2.1]; exact Nat.le_refl _, by rw [h.2.2.2.2.2]; exact Nat.le_refl _⟩, h.2.2.2.2⟩
theorem cpS.y {c : Nat} {σ t : AS} (h : cpS c σ t) {ids : List Nat} (hi : ∀ a, a ∉ ids → ¬ (c ≤ a ∧ a ≤ c + 4)) : yS [] ids σ t := ⟨⟨fun a k _ ha _ => ⟨h.1 a k (hi a ha), h.2.1 a k, gR_of h.2.2 a k⟩, fun a _ => kd_of h.2.2 a, by rw [zn_of h.2.2]; exact Nat.le_refl _, by rw [zu_of h.2.2]; exact Nat.le_refl _⟩, zn_of h.2.2, zu_of h.2.2⟩
section S77
variable {g : GX} {ct : CTy} {tab : List Ent} {labs : List Nat} {P : KN} {N : Option AV → AS → Prop} {X : AS → Prop} {n i : Nat} {ls : LSt} {st : List AV} {σ : AS}
theorem s_aas {pc ln v j : Nat} {ax : List Nat} {tbl : List (Nat × Nat)} {hh : Option Nat} {x : Int32} (he : getE tab i = some (.aastore, pc, ln, ax, tbl, hh)) (hk : kd true σ v = (0, 5)) (hx : x = nI j) (hj : j < 20) (h : nxt g ct tab labs P N X n (i+1) ls st (sR σ 77 j (some (.inl v)))) : run (true, g) ct tab labs P N X (n+1) i ls (rf v :: iv x :: rf 77 :: st) σ := by
  subst hx
  refine run_at he ?_
  refine grd (b := (Nat.beq (kd true σ 77).1 7 && isOb (kd true σ v) [0,1,2,3,4,5,6,7,8,9,10,11,12,13,14,15,16,17,18,19] || Nat.beq (kd true σ 77).1 8 && isOb (kd true σ v) [5]) && (!true || (fixR 77 (nI j).toNatClampNeg).isNone)) (by rw [hk]; rfl) ?_
  refine And.intro (show vp_in (nI j) 20 from vinN hj (by decide)) ?_
  show nxt g ct tab labs P N X n (i+1) ls st (sR σ 77 (nI j).toNatClampNeg (some (.inl v)))
  rw [clN (by omega)]
  exact h
theorem s_aal {pc ln v j : Nat} {ax : List Nat} {tbl : List (Nat × Nat)} {hh : Option Nat} {x : Int32} (he : getE tab i = some (.aaload, pc, ln, ax, tbl, hh)) (hx : x = nI j) (hj : j < 20) (hr : gR true σ 77 j = some (.inl v)) (h : nxt g ct tab labs P N X n (i+1) ls (rf v :: st) σ) : run (true, g) ct tab labs P N X (n+1) i ls (iv x :: rf 77 :: st) σ := by
  subst hx
  refine run_at he ?_
  refine And.intro (show vp_in (nI j) 20 from vinN hj (by decide)) ?_
  show nxt g ct tab labs P N X n (i+1) ls (rw_ (gR true σ 77 (nI j).toNatClampNeg) :: st) σ
  rw [clN (by omega), hr]
  exact h
end S77
section AC_
variable (G : CX) (g : GX) (l : Launch) (d : Nat) (σ : AS)
set_option maxHeartbeats 1000000 in
theorem x_keeps (T : Twn) (n : Nws) (ks : List Nws) (hT : TOK T) (hN : NOK T n) (hM : XNw T n σ) (hK : XKp T ks σ) (hz : 268 ≤ zn σ) : MC G g l (d+2) mX0_keeps [tX] σ (fun r t => r = none ∧ yS [28] kIds σ t ∧ XKp T ((n :: ks).take 20) t) := by
  obtain ⟨k1, k2, k3, π, k4, k5, k6⟩ := hK
  refine MC1 tX0_keeps [7, 11, 22, 23, 30, 37, 41, 44] rfl okX0_keeps rfl rfl rfl rfl (fun P hP => ?_)
  -- the end: room for one more
  have fin_ : ∀ (ks' : List Nws) (π' : Nat → Nat) (t : AS) (o1 o2 : Option AV), ks'.length < 20 → ks' = ks.take 19 → yS [28] kIds σ t → gI t 0 28 = nI ks'.length → (∀ i, i < 20 → StC (78 + 5 * i) t) → (∀ j, j < 20 → π' j < 20 ∧ gR true t 77 j = some (.inl (78 + 5 * π' j))) → (∀ i j, i < 20 → j < 20 → π' i = π' j → i = j) → (∀ (j : Nat) (x : Nws), ks'[j]? = some x → NOK T x ∧ XSt T x (78 + 5 * π' (ks'.length - 1 - j)) t) → P 37 [some tX, o1, o2] [] t := by
    intro ks' π' t o1 o2 hl he hS h28 hC h4 h5 h6
    have hz2 : 268 ≤ zn t := by rw [hS.2.1]; exact hz
    have hNt : XNw T n t := hM.ys hS hz rfl
    obtain ⟨p1, p2⟩ := h4 ks'.length hl
    refine hP _ _ _ _ (hP _ _ _ _ (s_aal rfl h28 hl p2 (hP _ _ _ _ ?_)))
    refine sv1 (r := some (.inl (78 + 5 * π' ks'.length))) rfl rfl (hC _ p1).1 rfl rfl (mcall (x_copy G g l d t T hT n (78 + 5 * π' ks'.length) 16 (hC _ p1) (StC16 t) (by omega) hNt) (fun r s1 h9 => ?_))
    obtain ⟨rfl, c1, c2⟩ := h9
    have e28 : gI s1 0 28 + nI 1 = nI (ks'.length + 1) := by rw [c1.1 0 28 (by omega), h28, nI_add]
    have hlen : ((n :: ks).take 20) = n :: ks' := by rw [he]; rfl
    refine ⟨rfl, ?_, ?_⟩
    · have y1 : yS [28] kIds t s1 := (c1.y (ids := kIds) (fun a ha z => kIds_mem ha (by omega))).mono rfl (by decide)
      have y2 : xS [28] kIds s1 (sI s1 0 28 (gI s1 0 28 + nI 1)) := xS.rf.f rfl
      exact (hS.tr y1).tr y2.y
    · rw [hlen]
      refine ⟨by show ks'.length + 1 ≤ 20; omega, ?_, fun i hi => ((hC i hi).of c1.2.2).of rfl, π', fun j hj => ⟨(h4 j hj).1, ?_⟩, h5, fun j x hx => ?_⟩
      · rw [gI_sI, if_pos ⟨rfl, rfl⟩, e28]; rfl
      · rw [gR_sI, gR_of c1.2.2]; exact (h4 j hj).2
      · have hin : ∀ (x : Nws) (c : Nat), c ≠ 0 → c + 4 < 268 → XSt T x c s1 → XSt T x c (sI s1 0 28 (gI s1 0 28 + nI 1)) := by
          intro x c hc _ hX
          refine ⟨?_, fun s hs => ?_, fun w hw => ?_⟩
          · rw [gI_sI, if_neg (by omega)]; exact hX.1
          · rw [gI_sI, if_neg (by omega)]; exact hX.2.1 s hs
          · rw [gI_sI, if_neg (by omega), gI_sI, if_neg (by omega), gI_sI, if_neg (by omega)]; exact hX.2.2 w hw
        cases j with
        | zero =>
          cases hx
          refine ⟨hN, ?_⟩
          show XSt T n (78 + 5 * π' (ks'.length + 1 - 1 - 0)) _
          rw [show ks'.length + 1 - 1 - 0 = ks'.length by omega]
          exact hin _ _ (by omega) (by omega) c2
        | succ j =>
          have hx : ks'[j]? = some x := hx
          have hj : j < ks'.length := (List.getElem?_eq_some_iff.mp hx).1
          obtain ⟨a1, a2⟩ := h6 j x hx
          refine ⟨a1, ?_⟩
          show XSt T x (78 + 5 * π' (ks'.length + 1 - 1 - (j + 1))) _
          rw [show ks'.length + 1 - 1 - (j + 1) = ks'.length - 1 - j by omega]
          have hne : π' (ks'.length - 1 - j) ≠ π' ks'.length := fun e => by have := h5 _ _ (by omega) hl e; omega
          have hp := (h4 (ks'.length - 1 - j) (by omega)).1
          refine hin _ _ (by omega) (by omega) ⟨?_, fun s hs => ?_, fun w hw => ?_⟩
          · rw [c1.1 _ _ (by omega)]; exact a2.1
          · rw [c1.1 _ _ (by omega)]; exact a2.2.1 s hs
          · rw [c1.1 _ _ (by omega), c1.1 _ _ (by omega), c1.1 _ _ (by omega)]; exact a2.2.2 w hw
  refine hP _ _ _ _ (And.intro (fun q => ?_) (fun q => ?_))
  · have q : ¬ gI σ 0 28 = nI 20 := q
    rw [k2, nI_eq (by omega) (by omega)] at q
    exact fin_ ks π σ _ _ (by omega) (by rw [List.take_of_length_le (by omega)]) yS.rf k2 k3 k4 k5 k6
  · have q : gI σ 0 28 = nI 20 := q
    rw [k2, nI_eq (by omega) (by omega)] at q
    refine hP _ _ _ _ (s_aal (j := 0) rfl rfl (by omega) (k4 0 (by omega)).2 ?_)
    have rot : ∀ (m k : Nat) (τ : AS), k + m = 20 → 1 ≤ k → rz σ τ → (∀ j, j < 20 → gR true τ 77 j = some (.inl (78 + 5 * (if j + 1 < k then π (j+1) else π j)))) → P 11 [some tX, some (rf (78 + 5 * π 0)), some (iv (nI k))] [] τ := by
      intro m
      induction m with
      | zero =>
        intro k τ hm hk hr hg
        have ek : k = 20 := by omega
        subst ek
        refine hP _ _ _ _ (And.intro (fun _ => ?_) (fun q => absurd (nI_le (by omega) (by omega)) q))
        have kv : kd true τ (78 + 5 * π 0) = (0, 5) := (hr.2.2.2.1 _).trans (k3 _ (k4 0 (by omega)).1).1
        refine hP _ _ _ _ (s_aas (j := 19) rfl kv rfl (by omega) ?_)
        have hr2 := hr.set 19 (some (.inl (78 + 5 * π 0)))
        have e28 : gI (sR τ 77 19 (some (.inl (78 + 5 * π 0)))) 0 28 - nI 1 = nI 19 := by rw [hr2.1, k2, q, nI_s1 _ _ (by omega)]
        have hl19 : (ks.take 19).length = 19 := by rw [List.length_take]; omega
        have y2 : xS [28] kIds (sR τ 77 19 (some (.inl (78 + 5 * π 0)))) (sI (sR τ 77 19 (some (.inl (78 + 5 * π 0)))) 0 28 (gI (sR τ 77 19 (some (.inl (78 + 5 * π 0)))) 0 28 - nI 1)) := xS.rf.f rfl
        refine fin_ (ks.take 19) (fun j => if j + 1 < 20 then π (j+1) else π 0) _ _ _ (by omega) rfl (hr2.y.tr y2.y) ?_ (fun i hi => ((k3 i hi).rz hr2 (by omega)).of rfl) (fun j hj => ?_) (fun i j hi hj e => ?_) (fun j x hx => ?_)
        · rw [gI_sI, if_pos ⟨rfl, rfl⟩, e28, hl19]
        · show (if j + 1 < 20 then π (j+1) else π 0) < 20 ∧ gR true (sI _ 0 28 _) 77 j = some (.inl (78 + 5 * (if j + 1 < 20 then π (j+1) else π 0)))
          rw [gR_sI, gR_77]
          by_cases e : j = 19
          · rw [if_pos e, if_neg (by omega)]
            exact ⟨(k4 0 (by omega)).1, rfl⟩
          · rw [if_neg e, if_pos (by omega), hg j hj, if_pos (by omega)]
            exact ⟨(k4 (j+1) (by omega)).1, rfl⟩
        · have e : (if i + 1 < 20 then π (i+1) else π 0) = (if j + 1 < 20 then π (j+1) else π 0) := e
          by_cases a1 : i + 1 < 20 <;> by_cases a2 : j + 1 < 20
          · rw [if_pos a1, if_pos a2] at e; have := k5 _ _ a1 a2 e; omega
          · rw [if_pos a1, if_neg a2] at e; have := k5 _ _ a1 (by omega) e; omega
          · rw [if_neg a1, if_pos a2] at e; have := k5 _ _ (by omega) a2 e; omega
          · omega
        · have hj : j < 19 := by have := (List.getElem?_eq_some_iff.mp hx).1; omega
          rw [List.getElem?_take_of_lt hj] at hx
          obtain ⟨a1, a2⟩ := k6 j x hx
          refine ⟨a1, ?_⟩
          show XSt T x (78 + 5 * (if (ks.take 19).length - 1 - j + 1 < 20 then π ((ks.take 19).length - 1 - j + 1) else π 0)) _
          rw [if_pos (by omega), hl19, show 19 - 1 - j + 1 = ks.length - 1 - j by omega]
          have hp := (k4 (ks.length - 1 - j) (by omega)).1
          refine ⟨?_, fun s hs => ?_, fun w hw => ?_⟩
          · rw [gI_sI, if_neg (by omega), hr2.1]; exact a2.1
          · rw [gI_sI, if_neg (by omega), hr2.1]; exact a2.2.1 s hs
          · rw [gI_sI, if_neg (by omega), hr2.1, gI_sI, if_neg (by omega), hr2.1, gI_sI, if_neg (by omega), hr2.1]; exact a2.2.2 w hw
      | succ m ih =>
        intro k τ hm hk hr hg
        have gk : gR true τ 77 k = some (.inl (78 + 5 * π k)) := by rw [hg k (by omega), if_neg (by omega)]
        have kv : kd true τ (78 + 5 * π k) = (0, 5) := (hr.2.2.2.1 _).trans (k3 _ (k4 k (by omega)).1).1
        refine hP _ _ _ _ (And.intro (fun q => absurd q (nI_ge (by omega) (by omega))) (fun _ => ?_))
        refine hP _ _ _ _ (s_aal (j := k) rfl rfl (by omega) gk ?_)
        refine hP _ _ _ _ (s_aas (j := k - 1) rfl kv (nI_s1 k 1 (by omega)) (by omega) ?_)
        show P 11 [some tX, some (rf (78 + 5 * π 0)), some (iv (nI k + nI 1))] [] (sR τ 77 (k-1) (some (.inl (78 + 5 * π k))))
        rw [nI_add]
        refine ih (k+1) _ (by omega) (by omega) (hr.set _ _) (fun j hj => ?_)
        rw [gR_77]
        by_cases e : j = k - 1
        · rw [if_pos e, if_pos (by omega), show j + 1 = k by omega]
        · rw [if_neg e, hg j hj]
          by_cases e2 : j + 1 < k
          · rw [if_pos e2, if_pos (by omega)]
          · rw [if_neg e2, if_neg (by omega)]
    exact rot 19 1 σ (by omega) (by omega) ⟨fun _ _ => rfl, fun _ _ => rfl, fun _ _ _ => rfl, fun _ => rfl, rfl, rfl⟩ (fun j hj => by rw [if_neg (by omega)]; exact (k4 j hj).2)
end AC_
