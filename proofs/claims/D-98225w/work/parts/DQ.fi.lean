/-! finding a word among words, a name among the named -/
theorem sv1g {g : GX} {ct : CTy} {tab : List Ent} {labs : List Nat} {P : KN} {N : Option AV → AS → Prop} {X : AS → Prop} {n i : Nat} {ls : LSt} {st : List AV} {σ : AS} {q pc ln c mi : Nat} {tbl : List (Nat × Nat)} {r : Nat ⊕ Nat} {x : AV} (he : getE tab i = some (.invokevirtual q, pc, ln, [1], tbl, none)) (hk : kdA (true, g) σ r = (0, c)) (hl : lkp tbl c = some mi) (hs : Nat.ble (scat st) 8 = true) (h : ct mi [rr r, x] σ (fun r s => nxt g ct tab labs P N X n (i+1) ls (r.toList ++ st) s) X) : run (true, g) ct tab labs P N X (n+1) i ls (x :: rr r :: st) σ := by
  refine run_at he ?_
  show Grd (Nat.beq (kdA (true, g) σ r).1 0) (match lkp tbl (kdA (true, g) σ r).2 with
    | some mi => Grd (Nat.ble (scat st) 8) (ct mi [rr r, x] σ (fun r s => nxt g ct tab labs P N X n (i+1) ls (r.toList ++ st) s) X)
    | none => False)
  rw [hk]
  show (match lkp tbl c with
    | some mi => Grd (Nat.ble (scat st) 8) (ct mi [rr r, x] σ (fun r s => nxt g ct tab labs P N X n (i+1) ls (r.toList ++ st) s) X)
    | none => False)
  rw [hl]
  exact grd hs h
def fIx (w : List Nat) : List (List Nat) → Nat → Option Nat
  | [], _ => none
  | x :: r, k => if x = w then some k else fIx w r (k+1)
/-- table T of old words -/
def tblOK (T : Nat) (ws : List (List Nat)) : Bool := decide (getP oKL (T+1) = (10, ws.length)) && (Nat.ble ws.length 100 && (List.range ws.length).all (fun i => match oR (T+1) i with
  | some (.inr (k+1)) => chkS k (ws.getD i []) && (oldOK (k+1) && (Nat.ble (ws.getD i []).length 20 && (ws.getD i []).all (fun x => Nat.blt x 256)))
  | _ => false))
section DQ_
variable (G : CX) (g : GX) (l : Launch) (d : Nat) (σ : AS)
set_option maxHeartbeats 1000000 in
theorem x_find (a T : Nat) (ws : List (List Nat)) (hT : tblOK T ws = true) (w : List Nat) (hw : small w) (h : SV g σ (.inl a) w) : MC G g l (d+3) mX0_find [rf a, rr (.inr (T+1))] σ (fun r t => r = some (iv (optI (fIx w ws 0))) ∧ t = σ) := by
  unfold tblOK at hT
  rw [Bool.and_eq_true, Bool.and_eq_true] at hT
  obtain ⟨t1, t2, t3⟩ := hT
  have t1 : getP oKL (T+1) = (10, ws.length) := of_decide_eq_true t1
  have t2 : ws.length ≤ 100 := Nat.le_of_ble_eq_true t2
  have kT : kdA (true, g) σ (.inr (T+1)) = (10, ws.length) := t1
  have hel : ∀ (i : Nat) (x : List Nat), ws[i]? = some x → ∃ k, oR (T+1) i = some (.inr (k+1)) ∧ chkS k x = true ∧ oldOK (k+1) = true ∧ small x := by
    intro i x hx
    have hi : i < ws.length := (List.getElem?_eq_some_iff.mp hx).1
    have h6 := List.all_eq_true.mp t3 i (List.mem_range.mpr hi)
    rw [List.getD_eq_getElem?_getD, hx] at h6
    have h6 : (match oR (T+1) i with
      | some (.inr (k+1)) => chkS k x && (oldOK (k+1) && (Nat.ble x.length 20 && x.all (fun x => Nat.blt x 256)))
      | _ => false) = true := h6
    split at h6
    · rename_i k hk
      rw [Bool.and_eq_true, Bool.and_eq_true, Bool.and_eq_true] at h6
      obtain ⟨c1, c2, c3, c4⟩ := h6
      refine ⟨k, hk, c1, c2, ?_, fun y hy => ?_⟩
      · have := Nat.le_of_ble_eq_true c3; omega
      · exact Nat.le_of_ble_eq_true (List.all_eq_true.mp c4 y hy)
    · cases h6
  refine MC1 tX0_find [2, 5, 9, 10] rfl okX0_find rfl rfl rfl rfl (fun P hP => hP _ _ _ _ ?_)
  have key : ∀ (rest pre : List (List Nat)), pre ++ rest = ws → fIx w ws 0 = fIx w rest pre.length → P 2 [some (rf a), some (rr (.inr (T+1))), some (iv (nI pre.length))] [] σ := by
    intro rest
    induction rest with
    | nil =>
      intro pre he hf
      rw [List.append_nil] at he
      subst he
      refine hP _ _ _ _ ?_
      refine grd (b := Nat.ble 1 (kdA (true, g) σ (.inr (T+1))).1 && Nat.ble (kdA (true, g) σ (.inr (T+1))).1 10) (by rw [kT]; rfl) ?_
      show P 5 [some (rf a), some (rr (.inr (T+1))), some (iv (nI pre.length))] [iv (nI (kdA (true, g) σ (.inr (T+1))).2), iv (nI pre.length)] σ
      rw [kT]
      refine hP _ _ _ _ (And.intro (fun _ => ⟨by rw [hf]; rfl, rfl⟩) (fun q => absurd (nI_le (Nat.le_refl _) (by omega)) q))
    | cons x rest ih =>
      intro pre he hf
      have hlen : pre.length + (rest.length + 1) = ws.length := by rw [← he]; simp
      have hx : ws[pre.length]? = some x := by rw [← he]; simp
      obtain ⟨k, k1, k2, k3, k4⟩ := hel pre.length x hx
      have ci : (nI pre.length).toNatClampNeg = pre.length := clN (by omega)
      refine hP _ _ _ _ ?_
      refine grd (b := Nat.ble 1 (kdA (true, g) σ (.inr (T+1))).1 && Nat.ble (kdA (true, g) σ (.inr (T+1))).1 10) (by rw [kT]; rfl) ?_
      show P 5 [some (rf a), some (rr (.inr (T+1))), some (iv (nI pre.length))] [iv (nI (kdA (true, g) σ (.inr (T+1))).2), iv (nI pre.length)] σ
      rw [kT]
      refine hP _ _ _ _ (And.intro (fun q => absurd q (nI_ge (by omega) (by omega))) (fun _ => ?_))
      refine grd (b := Nat.ble 7 (kdA (true, g) σ (.inr (T+1))).1 && Nat.ble (kdA (true, g) σ (.inr (T+1))).1 10) (by rw [kT]; rfl) ?_
      refine And.intro (show vp_in (nI pre.length) (kdA (true, g) σ (.inr (T+1))).2 by rw [kT]; exact vinN (by show pre.length < ws.length; omega) (by show ws.length ≤ 1000000; omega)) ?_
      show P 9 [some (rf a), some (rr (.inr (T+1))), some (iv (nI pre.length))] [rw_ (oR (T+1) (nI pre.length).toNatClampNeg)] σ
      rw [ci, k1]
      refine hP _ _ _ _ ?_
      have hS := sv_old (g := g) (σ := σ) k2
      show P 10 [some (rf a), some (rr (.inr (T+1))), some (iv (nI pre.length))] [rf a, rr (.inr (k+1))] σ
      refine hP _ _ _ _ (sv1g rfl hS.1 rfl rfl (mcall (j_equals G g l d σ (.inr (k+1)) (.inl a) x w hS h k4 hw k3) (fun r s1 h9 => ?_)))
      obtain ⟨rfl, e9⟩ := h9
      subst e9
      have hf : fIx w ws 0 = if x = w then some pre.length else fIx w rest (pre.length + 1) := hf
      by_cases e : x = w
      · rw [decide_eq_true e]
        rw [if_pos e] at hf
        exact And.intro (fun q => absurd q (by decide)) (fun _ => ⟨by rw [hf]; rfl, rfl⟩)
      · rw [decide_eq_false e]
        rw [if_neg e] at hf
        refine And.intro (fun _ => ?_) (fun q => absurd rfl q)
        show P 2 [some (rf a), some (rr (.inr (T+1))), some (iv (nI pre.length + nI 1))] [] s1
        rw [nI_add, show pre.length + 1 = (pre ++ [x]).length by simp]
        exact ih (pre ++ [x]) (by rw [← he]; simp) (by rw [hf]; simp)
  exact key ws [] rfl rfl
theorem namV_inj {w1 w2 : List Nat} (h1 : isLw w1) (h2 : isLw w2) (l1 : w1.length ≤ 6) (l2 : w2.length ≤ 6) (h : namV w1 = namV w2) : w1 = w2 := by
  have e1 := namV_nd w1.length w1 7 rfl h1 (by omega)
  have e2 := namV_nd w2.length w2 7 rfl h2 (by omega)
  have hl : w1.length = w2.length := by rw [h] at e1; omega
  apply List.ext_getElem?
  intro i
  by_cases hi : i < w1.length
  · obtain ⟨x, hx⟩ : ∃ x, w1[i]? = some x := ⟨_, List.getElem?_eq_getElem (by omega)⟩
    obtain ⟨y, hy⟩ : ∃ y, w2[i]? = some y := ⟨_, List.getElem?_eq_getElem (by omega)⟩
    have f1 := namV_dig w1.length w1 i x rfl h1 hx
    have f2 := namV_dig w2.length w2 i y rfl h2 hy
    rw [h, hl, f2] at f1
    have := h1 x (List.mem_of_getElem? hx)
    have := h2 y (List.mem_of_getElem? hy)
    rw [hx, hy, show x = y by omega]
  · rw [List.getElem?_eq_none_iff.mpr (by omega), List.getElem?_eq_none_iff.mpr (by omega)]
set_option maxHeartbeats 1000000 in
theorem x7_find {Q : Nat → Prop} (lst a : Nat) (es vs : List Nat) (hL : LST Q σ lst es) (hlen : es.length = vs.length) (hE : ∀ (i x v : Nat), es[i]? = some x → vs[i]? = some v → (∃ cl, kd true σ x = (0, cl) ∧ (cl = 7 ∨ cl = 8 ∨ cl = 14)) ∧ NMD Q σ x v) (h100 : es.length ≤ 100) (w : List Nat) (hw : isLw w) (hl6 : w.length ≤ 6) {P' : Nat → Prop} (h : STR P' σ a w) : MC G g l (d+4) mX7_find [rf lst, rf a] σ (fun r t => r = some (iv (optI (idxF (namV w) vs 0))) ∧ t = σ) := by
  have hS := h.sv (g := g)
  refine MC1 tX7_find [2, 4, 5, 8, 9, 11, 12, 13] rfl okX7_find rfl rfl rfl rfl (fun P hP => hP _ _ _ _ ?_)
  have key : ∀ (rest pre : List Nat), pre ++ rest = vs → idxF (namV w) vs 0 = idxF (namV w) rest pre.length → P 2 [some (rf lst), some (rf a), some (iv (nI pre.length))] [] σ := by
    intro rest
    induction rest with
    | nil =>
      intro pre he hf
      rw [List.append_nil] at he
      subst he
      refine hP _ _ _ _ ?_
      show P 4 [some (rf lst), some (rf a), some (iv (nI pre.length))] [rf lst, iv (nI pre.length)] σ
      refine hP _ _ _ _ (si0 rfl rfl hL.kd rfl rfl (mcall (l_size G g l (d+2) σ hL) (fun r s1 h9 => ?_)))
      obtain ⟨rfl, e9⟩ := h9
      subst e9
      show P 5 [some (rf lst), some (rf a), some (iv (nI pre.length))] [iv (nI es.length), iv (nI pre.length)] s1
      refine hP _ _ _ _ (And.intro (fun _ => ⟨by rw [hf]; rfl, rfl⟩) (fun q => absurd (nI_le (by omega) (by omega)) q))
    | cons v rest ih =>
      intro pre he hf
      have hlv : pre.length + (rest.length + 1) = vs.length := by rw [← he]; simp
      have hv : vs[pre.length]? = some v := by rw [← he]; simp
      obtain ⟨x, hx⟩ : ∃ x, es[pre.length]? = some x := ⟨_, List.getElem?_eq_getElem (by omega)⟩
      obtain ⟨⟨cl, hcl, hcl2⟩, hN⟩ := hE pre.length x v hx hv
      obtain ⟨-, na, nw_, n1, n2, n3, n4, n5, n6⟩ := hN
      refine hP _ _ _ _ ?_
      show P 4 [some (rf lst), some (rf a), some (iv (nI pre.length))] [rf lst, iv (nI pre.length)] σ
      refine hP _ _ _ _ (si0 rfl rfl hL.kd rfl rfl (mcall (l_size G g l (d+2) σ hL) (fun r s1 h9 => ?_)))
      obtain ⟨rfl, e9⟩ := h9
      subst e9
      show P 5 [some (rf lst), some (rf a), some (iv (nI pre.length))] [iv (nI es.length), iv (nI pre.length)] s1
      refine hP _ _ _ _ (And.intro (fun q => absurd q (nI_ge (by omega) (by omega))) (fun _ => ?_))
      show P 8 [some (rf lst), some (rf a), some (iv (nI pre.length))] [iv (nI pre.length), rf lst] s1
      refine hP _ _ _ _ (si1 rfl rfl hL.kd rfl rfl (mcall (l_get G g l d s1 hL _ pre.length x rfl hx) (fun r s2 h9 => ?_)))
      obtain ⟨rfl, e9⟩ := h9
      subst e9
      show P 9 [some (rf lst), some (rf a), some (iv (nI pre.length))] [rf x] s2
      refine hP _ _ _ _ ?_
      refine grd (b := List.contains _ (kcode (kd true s2 x))) (by rcases hcl2 with rfl | rfl | rfl <;> (rw [hcl]; rfl)) ?_
      refine grd (b := isOb (kd true s2 x) _) (by rcases hcl2 with rfl | rfl | rfl <;> (rw [hcl]; rfl)) ?_
      show P 11 [some (rf lst), some (rf a), some (iv (nI pre.length))] [rw_ (gR true s2 x 0)] s2
      rw [n1]
      refine hP _ _ _ _ ?_
      show P 12 [some (rf lst), some (rf a), some (iv (nI pre.length))] [rf a, rf na] s2
      refine hP _ _ _ _ (sv1 rfl rfl n2.2.1 rfl rfl (mcall (j_equals G g l (d+1) s2 (.inl na) (.inl a) nw_ w n2.sv hS (n3.small (by omega)) (hw.small (by omega)) trivial) (fun r s3 h9 => ?_)))
      obtain ⟨rfl, e9⟩ := h9
      subst e9
      show P 13 [some (rf lst), some (rf a), some (iv (nI pre.length))] [iv (bI (decide (nw_ = w)))] s3
      have hf : idxF (namV w) vs 0 = if v = namV w then some pre.length else idxF (namV w) rest (pre.length + 1) := hf
      by_cases e : nw_ = w
      · rw [decide_eq_true e]
        rw [if_pos (by rw [← n6, e])] at hf
        exact hP _ _ _ _ (And.intro (fun q => absurd q (by decide)) (fun _ => ⟨by rw [hf]; rfl, rfl⟩))
      · rw [decide_eq_false e]
        rw [if_neg (fun z => e (namV_inj n3 hw n5 hl6 (n6.trans z)))] at hf
        refine hP _ _ _ _ (And.intro (fun _ => ?_) (fun q => absurd rfl q))
        show P 2 [some (rf lst), some (rf a), some (iv (nI pre.length + nI 1))] [] s3
        rw [nI_add, show pre.length + 1 = (pre ++ [v]).length by simp]
        exact ih (pre ++ [v]) (by rw [← he]; simp) (by rw [hf]; simp)
  exact key vs [] rfl rfl
end DQ_
