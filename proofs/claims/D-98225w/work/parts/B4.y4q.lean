section Y4_q
variable (G : CX) (g : GX) (l : Launch) (d : Nat) (σ : AS)
/-- a step back -/
theorem YOkq.dec {tp V W C : List Nat} {o a : Nat} {t : AS} (h : YOkq tp V W C o a t) {x : Int32} (hx : x = gI t 200 92 - nI 1) (ho : 1 ≤ o) : MYq V W C (o - 1) (sI t 200 92 x) := by
  obtain ⟨-, ⟨⟨a1, a2, a3, a4, a5, a6, a7, a8⟩, a9⟩, -⟩ := h
  have S3 : mS [92] [] t (sI t 200 92 x) := mS.rf.f rfl
  exact ⟨⟨by rw [S3.i 200 89 rfl rfl]; exact a1, by rw [S3.i 200 91 rfl rfl]; exact a2, by rw [gI_sI, if_pos ⟨rfl, rfl⟩, hx, a3, nI_s1 _ _ ho], fun i u e => by rw [S3.ia 264 rfl rfl]; exact a4 i u e, fun i u e => by rw [S3.ia 265 rfl rfl]; exact a5 i u e, a6, by omega, a8⟩, by rw [S3.i 200 93 rfl rfl]; exact a9⟩
theorem MFq.deco {F C : List Nat} {o : Nat} {σ : AS} {x : Int32} (h : MFq F C o σ) (hx : x = gI σ 200 92 - nI 1) (ho : 1 ≤ o) : MFq F C (o - 1) (sI σ 200 92 x) := by
  obtain ⟨a1, a2, a3, a4, a5, a6, a7, a8⟩ := h
  have S3 : mS [92] [] σ (sI σ 200 92 x) := mS.rf.f rfl
  exact ⟨by rw [S3.i 200 89 rfl rfl]; exact a1, by rw [S3.i 200 91 rfl rfl]; exact a2, by rw [gI_sI, if_pos ⟨rfl, rfl⟩, hx, a3, nI_s1 _ _ ho], fun i u e => by rw [S3.ia 264 rfl rfl]; exact a4 i u e, fun i u e => by rw [S3.ia 265 rfl rfl]; exact a5 i u e, a6, by omega, a8⟩
/-- the top is another -/
theorem MFq.alt {F C : List Nat} {o v u : Nat} {σ : AS} {x : Int32} {i : Nat} (h : MFq (v :: F) C o σ) (hi : i = F.length) (hx : x = nI u) (hu : u ≤ 100) : MFq (u :: F) C o (sI σ 265 i x) := by
  obtain ⟨h1, h2, h3, h4, h5, h6, h7, h8⟩ := h
  subst hi
  have hS : mS [] [265] σ (sI σ 265 F.length x) := mS.rf.a rfl
  refine ⟨by rw [hS.i 200 89 rfl rfl]; exact h1, by rw [hS.i 200 91 rfl rfl]; exact h2, by rw [hS.i 200 92 rfl rfl]; exact h3, fun i w e => by rw [hS.ia 264 rfl rfl]; exact h4 i w e, fun i w e => ?_, fun w hw => ?_, h7, h8⟩
  · rw [gI_sI]
    rw [List.reverse_cons] at e
    rcases Nat.lt_trichotomy i F.length with q | q | q
    · rw [if_neg (by omega)]
      rw [List.getElem?_append_left (by rw [List.length_reverse]; exact q)] at e
      refine h5 i w ?_
      rw [List.reverse_cons, List.getElem?_append_left (by rw [List.length_reverse]; exact q)]
      exact e
    · subst q
      rw [if_pos ⟨rfl, rfl⟩, hx]
      rw [List.getElem?_append_right (by simp)] at e
      simp at e
      rw [e]
    · rw [List.getElem?_eq_none (by simp; omega)] at e
      cases e
  · rcases List.mem_cons.mp hw with e | e
    · omega
    · exact h6 w (List.mem_cons_of_mem _ e)
set_option maxRecDepth 20000 in
set_option maxHeartbeats 4000000 in
theorem c_qGoesOn (tp V W C : List Nat) (o a : Nat) (h : YOkq tp V W C o a σ) (hV : topN isOp V) :
    MC G g l (d+5) mX6_qGoesOn [tM] σ (fun r t => ySq σ t ∧ ∃ y, Rch true tp (1, W, C, o, a) y ∧ ((∃ W' C' o' a', y = (0, W', C', o', a') ∧ a < a' ∧ r = some (iv (nI 1)) ∧ YOkq tp V W' C' o' a' t) ∨ (∃ W' C' o' a', y = (2, [], C' ++ W', o', a') ∧ a ≤ a' ∧ r = some (iv (nI 0)) ∧ YOkq tp V W' C' o' a' t) ∨ (∃ f, y = yflt f ∧ r = some (iv (nI 0)) ∧ YErq tp f t))) := by
  refine MC1 tX6_qGoesOn [0, 19, 58, 61, 69, 82, 90, 93, 107, 115, 128, 144, 147, 161, 169, 192, 204] rfl okX6_qGoesOn rfl rfl rfl rfl (fun P hP => ?_)
  -- the rest, where no bracket is closed
  have rest : ∀ (W' C' : List Nat) (o' a' : Nat) (τ : AS) (z : Option AV), ySq σ τ → Rch true tp (1, W, C, o, a) (1, W', C', o', a') → a ≤ a' → YOkq tp V W' C' o' a' τ → ¬ (tp[a']? = some 41 ∧ isCl (lastM W') = true) → P 61 [some tM, z] [] τ := by
    intro W' C' o' a' τ z hS hR ha hO hno
    obtain ⟨hX, hM, hI⟩ := hO
    have hle := YOkq.le ⟨hX, hM, hI⟩
    have hL : ∀ v, lastM W' = some v → v ≤ 100 := fun v hv => by have := (hI.1 v (lastM_mem W' v hv).1).1; omega
    have yst : ∀ y, (if tp[a']? = some 42 then ypush (dropP isMul W' C') 3 o' (skp tp (a'+1))
        else if tp[a']? = some 47 then ypush (dropP isMul W' C') 4 o' (skp tp (a'+1))
        else if tp[a']? = some 43 then ypush (dropP isOp W' C') 1 o' (skp tp (a'+1))
        else if tp[a']? = some 45 then ypush (dropP isOp W' C') 2 o' (skp tp (a'+1))
        else match lastM W' with
          | none => (2, [], C' ++ W', o', a')
          | some m => if m = 21 ∨ m = 22 then (if tp[a']? = some 44 then ynext (dropM W' C') o' (skp tp (a'+1)) else yflt (1, a')) else yflt (1, a')) = y → Rch true tp (1, W, C, o, a) y := by
      intro y hy
      refine hR.tr (Rch.one ?_ Rch.rf)
      show yG tp W' C' o' a' = y
      unfold yG
      rw [if_neg hno]
      exact hy
    -- an operator is pushed, behind what goes ahead of it
    have push : ∀ (p : Nat → Bool) (v : Nat) (W2 C2 : List Nat) (τ1 : AS), (∀ x, p x = true → x < 20) → dropP p W' C' = (W2, C2) → v ≤ 4 → tp[a']? = (if v = 3 then some 42 else if v = 4 then some 47 else if v = 1 then some 43 else some 45) → ySq σ τ1 → PX tp (.ok (skp tp (a'+1))) τ1 → MYq V W2 C2 o' τ1 → Rch true tp (1, W, C, o, a) (0, v :: W2, C2, o', skp tp (a'+1)) →
        (P 93 [some tM, some (iv (nI v))] [] τ1 ∧ P 147 [some tM, some (iv (nI v))] [] τ1) := by
      intro p v W2 C2 τ1 hp hd hv hc S1 X1 M1 R1
      have hal : a' < tp.length := by
        refine get_lt (c := if v = 3 then 42 else if v = 4 then 47 else if v = 1 then 43 else 45) ?_
        rw [hc]; split <;> (try split) <;> (try split) <;> rfl
      have hs := skp_ge tp (a'+1)
      have hdl := dropP_len p W' C'
      have hdi := dropP_inv hp W' C'
      rw [hd] at hdl hdi
      have hdl : C2.length + W2.length = C'.length + W'.length := hdl
      have M2 := M1
      obtain ⟨b1, b2, b3, b4, b5, b6, b7, b8⟩ := M1.1
      have hwl : (W2 ++ V).length < 1600 := by rw [List.length_append]; omega
      have e1 : (gI τ1 200 91).toNatClampNeg = (W2 ++ V).length := by rw [b2, clN (by omega)]
      have fin : vp_in (gI τ1 200 91) 1700 ∧ (NarOK 1 (nI 1) ∧ ySq σ (sI (sI τ1 265 (gI τ1 200 91).toNatClampNeg (nI v)) 200 91 (gI τ1 200 91 + nI 1)) ∧ ∃ y, Rch true tp (1, W, C, o, a) y ∧ ((∃ W' C' o' a', y = (0, W', C', o', a') ∧ a < a' ∧ some (iv (nI 1)) = some (iv (nI 1)) ∧ YOkq tp V W' C' o' a' (sI (sI τ1 265 (gI τ1 200 91).toNatClampNeg (nI v)) 200 91 (gI τ1 200 91 + nI 1))) ∨ (∃ W' C' o' a', y = (2, [], C' ++ W', o', a') ∧ a ≤ a' ∧ some (iv (nI 1)) = some (iv (nI 0)) ∧ YOkq tp V W' C' o' a' (sI (sI τ1 265 (gI τ1 200 91).toNatClampNeg (nI v)) 200 91 (gI τ1 200 91 + nI 1))) ∨ (∃ f, y = yflt f ∧ some (iv (nI 1)) = some (iv (nI 0)) ∧ YErq tp f (sI (sI τ1 265 (gI τ1 200 91).toNatClampNeg (nI v)) 200 91 (gI τ1 200 91 + nI 1))))) := by
        refine ⟨by rw [b2]; exact vinN (by omega) (by decide), nar1, S1.tr (ySq.ofW (fs := [91]) ((mS.rf.a rfl).f rfl) rfl), _, R1, Or.inl ⟨v :: W2, C2, o', skp tp (a'+1), rfl, by omega, rfl, X1.keep (fs := [91]) (ids := [265]) ((mS.rf.a rfl).f rfl) rfl, ⟨M1.1.push e1 rfl (by rw [b2, nI_add]) (by omega) (by rw [List.length_append]; omega), ?_⟩, fun u hu => ?_, ?_, hI.2.2.1, ?_⟩⟩
        · rw [gI_sI, if_neg (by omega), gI_sI, if_neg (by omega)]; exact M2.2
        · rcases List.mem_cons.mp hu with e | e
          · exact ⟨by omega, fun _ => by omega⟩
          · exact hI.1 u (hdi.2 u e)
        · rw [cntM_c, if_neg (by omega), hdi.1]
          have := hI.2.1
          omega
        · rw [List.length_cons]
          omega
      exact ⟨hP _ _ _ _ fin, hP _ _ _ _ fin⟩
    -- times and by
    have mul : ∀ (v : Nat) (W2 C2 : List Nat) (τ1 : AS), (v = 3 ∨ v = 4) → dropP isMul W' C' = dropP isMul W2 C2 → tp[a']? = (if v = 3 then some 42 else if v = 4 then some 47 else if v = 1 then some 43 else some 45) → ySq σ τ1 → PX tp (.ok (skp tp (a'+1))) τ1 → MYq V W2 C2 o' τ1 → Rch true tp (1, W, C, o, a) (ypush (dropP isMul W' C') v o' (skp tp (a'+1))) → P 82 [some tM, some (iv (nI v))] [] τ1 := by
      intro v W2
      induction W2 with
      | nil =>
        intro C2 τ1 hv hd hc S1 X1 M1 R1
        have hn : ∀ k, k = 3 ∨ k = 4 → decide ((([] : List Nat) ++ V).head? = some k) = false := by
          intro k hk
          refine decide_eq_false (fun e => ?_)
          have := of_decide_eq_false (hV k e)
          omega
        refine hP _ _ _ _ ?_
        refine mcall (c_qIsOn G g l (d+3) τ1 _ C2 o' 3 M1.1 _ rfl (by omega)) (fun r s1 h9 => ?_)
        obtain ⟨rfl, rfl⟩ := h9
        rw [hn 3 (by omega)]
        refine And.intro (fun q => absurd rfl q) (fun _ => ?_)
        refine mcall (c_qIsOn G g l (d+3) s1 _ C2 o' 4 M1.1 _ rfl (by omega)) (fun r s1 h9 => ?_)
        obtain ⟨rfl, rfl⟩ := h9
        rw [hn 4 (by omega)]
        refine And.intro (fun _ => ?_) (fun q => absurd rfl q)
        rw [hd] at R1
        exact (push isMul v [] C2 s1 (fun x hx => by have := of_decide_eq_true hx; omega) hd (by omega) hc S1 X1 M1 R1).1
      | cons u W2 ih =>
        intro C2 τ1 hv hd hc S1 X1 M1 R1
        have hu9 := M1.top.2
        have hh : ∀ k, decide (((u :: W2) ++ V).head? = some k) = decide (u = k) := by
          intro k
          show decide (some u = some k) = _
          exact decide_eq_decide.mpr ⟨fun e => Option.some.inj e, fun e => by rw [e]⟩
        have drop : isMul u = true → P 90 [some tM, some (iv (nI v))] [] τ1 := by
          intro hm
          refine hP _ _ _ _ ?_
          refine mcall (c_qDrops G g l (d+2) τ1 (W2 ++ V) C2 o' u M1.1) (fun r s2 h9 => ?_)
          obtain ⟨rfl, S2, H2, M2⟩ := h9
          refine ih (C2 ++ [u]) s2 hv ?_ hc (S1.tr (ySq.ofA S2 rfl H2)) (X1.keep S2 rfl) ⟨M2, by rw [S2.i 200 93 rfl rfl]; exact M1.2⟩ R1
          rw [hd]
          show (if isMul u = true then _ else _) = _
          rw [if_pos hm]
        refine hP _ _ _ _ ?_
        refine mcall (c_qIsOn G g l (d+3) τ1 _ C2 o' 3 M1.1 _ rfl (by omega)) (fun r s1 h9 => ?_)
        obtain ⟨rfl, rfl⟩ := h9
        rw [hh 3]
        by_cases u3 : u = 3
        · rw [decide_eq_true u3]
          exact And.intro (fun _ => drop (decide_eq_true (Or.inl u3))) (fun q => absurd q (by decide))
        · rw [decide_eq_false u3]
          refine And.intro (fun q => absurd rfl q) (fun _ => ?_)
          refine mcall (c_qIsOn G g l (d+3) s1 _ C2 o' 4 M1.1 _ rfl (by omega)) (fun r s1 h9 => ?_)
          obtain ⟨rfl, rfl⟩ := h9
          rw [hh 4]
          by_cases u4 : u = 4
          · rw [decide_eq_true u4]
            exact And.intro (fun q => absurd q (by decide)) (fun _ => drop (decide_eq_true (Or.inr u4)))
          · rw [decide_eq_false u4]
            refine And.intro (fun _ => ?_) (fun q => absurd rfl q)
            have hd2 : dropP isMul W' C' = (u :: W2, C2) := by
              rw [hd]
              exact dropP_top (fun x hx => by cases hx; exact decide_eq_false (by omega)) C2
            rw [hd2] at R1
            exact (push isMul v (u :: W2) C2 s1 (fun x hx => by have := of_decide_eq_true hx; omega) hd2 (by omega) hc S1 X1 M1 R1).1
    -- plus and less
    have add : ∀ (v : Nat) (W2 C2 : List Nat) (τ1 : AS), (v = 1 ∨ v = 2) → dropP isOp W' C' = dropP isOp W2 C2 → tp[a']? = (if v = 3 then some 42 else if v = 4 then some 47 else if v = 1 then some 43 else some 45) → ySq σ τ1 → PX tp (.ok (skp tp (a'+1))) τ1 → MYq V W2 C2 o' τ1 → Rch true tp (1, W, C, o, a) (ypush (dropP isOp W' C') v o' (skp tp (a'+1))) → P 128 [some tM, some (iv (nI v))] [] τ1 := by
      intro v W2
      induction W2 with
      | nil =>
        intro C2 τ1 hv hd hc S1 X1 M1 R1
        have hn : ∀ k, k = 1 ∨ k = 2 ∨ k = 3 ∨ k = 4 → decide ((([] : List Nat) ++ V).head? = some k) = false := by
          intro k hk
          refine decide_eq_false (fun e => ?_)
          have := of_decide_eq_false (hV k e)
          omega
        refine hP _ _ _ _ ?_
        refine mcall (c_qIsOn G g l (d+3) τ1 _ C2 o' 3 M1.1 _ rfl (by omega)) (fun r s1 h9 => ?_)
        obtain ⟨rfl, rfl⟩ := h9
        rw [hn 3 (by omega)]
        refine And.intro (fun q => absurd rfl q) (fun _ => ?_)
        refine mcall (c_qIsOn G g l (d+3) s1 _ C2 o' 4 M1.1 _ rfl (by omega)) (fun r s1 h9 => ?_)
        obtain ⟨rfl, rfl⟩ := h9
        rw [hn 4 (by omega)]
        refine And.intro (fun q => absurd rfl q) (fun _ => ?_)
        refine mcall (c_qIsOn G g l (d+3) s1 _ C2 o' 1 M1.1 _ rfl (by omega)) (fun r s1 h9 => ?_)
        obtain ⟨rfl, rfl⟩ := h9
        rw [hn 1 (by omega)]
        refine And.intro (fun q => absurd rfl q) (fun _ => ?_)
        refine mcall (c_qIsOn G g l (d+3) s1 _ C2 o' 2 M1.1 _ rfl (by omega)) (fun r s1 h9 => ?_)
        obtain ⟨rfl, rfl⟩ := h9
        rw [hn 2 (by omega)]
        refine And.intro (fun _ => ?_) (fun q => absurd rfl q)
        rw [hd] at R1
        exact (push isOp v [] C2 s1 (fun x hx => by have := of_decide_eq_true hx; omega) hd (by omega) hc S1 X1 M1 R1).2
      | cons u W2 ih =>
        intro C2 τ1 hv hd hc S1 X1 M1 R1
        have hu9 := M1.top.2
        have hh : ∀ k, decide (((u :: W2) ++ V).head? = some k) = decide (u = k) := by
          intro k
          show decide (some u = some k) = _
          exact decide_eq_decide.mpr ⟨fun e => Option.some.inj e, fun e => by rw [e]⟩
        have drop : isOp u = true → P 144 [some tM, some (iv (nI v))] [] τ1 := by
          intro hm
          refine hP _ _ _ _ ?_
          refine mcall (c_qDrops G g l (d+2) τ1 (W2 ++ V) C2 o' u M1.1) (fun r s2 h9 => ?_)
          obtain ⟨rfl, S2, H2, M2⟩ := h9
          refine ih (C2 ++ [u]) s2 hv ?_ hc (S1.tr (ySq.ofA S2 rfl H2)) (X1.keep S2 rfl) ⟨M2, by rw [S2.i 200 93 rfl rfl]; exact M1.2⟩ R1
          rw [hd]
          show (if isOp u = true then _ else _) = _
          rw [if_pos hm]
        refine hP _ _ _ _ ?_
        refine mcall (c_qIsOn G g l (d+3) τ1 _ C2 o' 3 M1.1 _ rfl (by omega)) (fun r s1 h9 => ?_)
        obtain ⟨rfl, rfl⟩ := h9
        rw [hh 3]
        by_cases u3 : u = 3
        · rw [decide_eq_true u3]
          exact And.intro (fun _ => drop (decide_eq_true (by omega))) (fun q => absurd q (by decide))
        · rw [decide_eq_false u3]
          refine And.intro (fun q => absurd rfl q) (fun _ => ?_)
          refine mcall (c_qIsOn G g l (d+3) s1 _ C2 o' 4 M1.1 _ rfl (by omega)) (fun r s1 h9 => ?_)
          obtain ⟨rfl, rfl⟩ := h9
          rw [hh 4]
          by_cases u4 : u = 4
          · rw [decide_eq_true u4]
            exact And.intro (fun _ => drop (decide_eq_true (by omega))) (fun q => absurd q (by decide))
          · rw [decide_eq_false u4]
            refine And.intro (fun q => absurd rfl q) (fun _ => ?_)
            refine mcall (c_qIsOn G g l (d+3) s1 _ C2 o' 1 M1.1 _ rfl (by omega)) (fun r s1 h9 => ?_)
            obtain ⟨rfl, rfl⟩ := h9
            rw [hh 1]
            by_cases u1 : u = 1
            · rw [decide_eq_true u1]
              exact And.intro (fun _ => drop (decide_eq_true (by omega))) (fun q => absurd q (by decide))
            · rw [decide_eq_false u1]
              refine And.intro (fun q => absurd rfl q) (fun _ => ?_)
              refine mcall (c_qIsOn G g l (d+3) s1 _ C2 o' 2 M1.1 _ rfl (by omega)) (fun r s1 h9 => ?_)
              obtain ⟨rfl, rfl⟩ := h9
              rw [hh 2]
              by_cases u2 : u = 2
              · rw [decide_eq_true u2]
                exact And.intro (fun q => absurd q (by decide)) (fun _ => drop (decide_eq_true (by omega)))
              · rw [decide_eq_false u2]
                refine And.intro (fun _ => ?_) (fun q => absurd rfl q)
                have hd2 : dropP isOp W' C' = (u :: W2, C2) := by
                  rw [hd]
                  exact dropP_top (fun x hx => by cases hx; exact decide_eq_false (by omega)) C2
                rw [hd2] at R1
                exact (push isOp v (u :: W2) C2 s1 (fun x hx => by have := of_decide_eq_true hx; omega) hd2 (by omega) hc S1 X1 M1 R1).2
    -- what was taken
    have got : ∀ (c : Nat) (τ1 : AS), tp[a']? = some c → ySq σ τ1 → PX tp (.ok (skp tp (a'+1))) τ1 → gI τ1 200 2 = nI (a'+1) → vp_in (gI τ1 200 2 - nI 1) 1600 ∧ gI τ1 201 (gI τ1 200 2 - nI 1).toNatClampNeg = nI c ∧ c < 256 := by
      intro c τ1 hc S1 X1 h2
      have hal := get_lt hc
      obtain ⟨p9, X9⟩ := X1
      have hv := X9.1.1.2 a' c hc
      have e : gI τ1 200 2 - nI 1 = nI a' := by rw [h2, nI_s1 _ _ (by omega)]; rfl
      exact ⟨by rw [e]; exact vinN (by omega) (by decide), by rw [e, clN (by omega)]; exact hv.1, hv.2⟩
    refine hP _ _ _ _ ?_
    refine mcall (c_takesSign G g l (d+2) τ tp (.ok a') hX _ 42 rfl (by omega) ⟨rfl, rfl⟩) (fun r s1 h9 => ?_)
    obtain ⟨S1, ⟨t1, rfl, X1, h21⟩ | ⟨t1, rfl, O1⟩⟩ := h9
    · have Q1 : ySq σ s1 := hS.tr (ySq.of S1 rfl)
      have M1 : MYq V W' C' o' s1 := hM.keep S1 rfl rfl
      refine And.intro (fun _ => ?_) (fun q => absurd q (by decide))
      obtain ⟨g1, g2, g3⟩ := got 42 s1 t1 Q1 X1 h21
      refine hP _ _ _ _ (And.intro g1 (And.intro (fun q => ?_) (fun _ => ?_)))
      · exact absurd g2 q
      · exact mul 3 W' C' s1 (by omega) rfl t1 Q1 X1 M1 (yst _ (by rw [if_pos t1]))
    · have Q1 : ySq σ s1 := hS.tr (ySq.of S1 rfl)
      have M1 : MYq V W' C' o' s1 := hM.keep S1 rfl rfl
      refine And.intro (fun q => absurd rfl q) (fun _ => ?_)
      refine mcall (c_takesSign G g l (d+2) s1 tp (.ok a') ⟨_, O1⟩ _ 47 rfl (by omega) ⟨rfl, rfl⟩) (fun r s2 h9 => ?_)
      obtain ⟨S2, ⟨t2, rfl, X2, h22⟩ | ⟨t2, rfl, O2⟩⟩ := h9
      · have Q2 : ySq σ s2 := Q1.tr (ySq.of S2 rfl)
        have M2 : MYq V W' C' o' s2 := M1.keep S2 rfl rfl
        refine And.intro (fun q => absurd q (by decide)) (fun _ => ?_)
        obtain ⟨g1, g2, g3⟩ := got 47 s2 t2 Q2 X2 h22
        refine hP _ _ _ _ (And.intro g1 (And.intro (fun _ => ?_) (fun q => ?_)))
        · exact mul 4 W' C' s2 (by omega) rfl t2 Q2 X2 M2 (yst _ (by rw [if_neg t1, if_pos t2]))
        · have q0 : gI s2 201 (gI s2 200 2 - nI 1).toNatClampNeg = nI 42 := q
          rw [g2, nI_eq (by omega) (by omega)] at q0
          omega
      · have Q2 : ySq σ s2 := Q1.tr (ySq.of S2 rfl)
        have M2 : MYq V W' C' o' s2 := M1.keep S2 rfl rfl
        refine And.intro (fun _ => ?_) (fun q => absurd rfl q)
        refine hP _ _ _ _ ?_
        refine mcall (c_takesSign G g l (d+2) s2 tp (.ok a') ⟨_, O2⟩ _ 43 rfl (by omega) ⟨rfl, rfl⟩) (fun r s3 h9 => ?_)
        obtain ⟨S3, ⟨t3, rfl, X3, h23⟩ | ⟨t3, rfl, O3⟩⟩ := h9
        · have Q3 : ySq σ s3 := Q2.tr (ySq.of S3 rfl)
          have M3 : MYq V W' C' o' s3 := M2.keep S3 rfl rfl
          refine And.intro (fun _ => ?_) (fun q => absurd q (by decide))
          obtain ⟨g1, g2, g3⟩ := got 43 s3 t3 Q3 X3 h23
          refine hP _ _ _ _ (And.intro g1 (And.intro (fun q => absurd g2 q) (fun _ => ?_)))
          exact add 1 W' C' s3 (by omega) rfl t3 Q3 X3 M3 (yst _ (by rw [if_neg t1, if_neg t2, if_pos t3]))
        · have Q3 : ySq σ s3 := Q2.tr (ySq.of S3 rfl)
          have M3 : MYq V W' C' o' s3 := M2.keep S3 rfl rfl
          refine And.intro (fun q => absurd rfl q) (fun _ => ?_)
          refine mcall (c_takesSign G g l (d+2) s3 tp (.ok a') ⟨_, O3⟩ _ 45 rfl (by omega) ⟨rfl, rfl⟩) (fun r s4 h9 => ?_)
          obtain ⟨S4, ⟨t4, rfl, X4, h24⟩ | ⟨t4, rfl, O4⟩⟩ := h9
          · have Q4 : ySq σ s4 := Q3.tr (ySq.of S4 rfl)
            have M4 : MYq V W' C' o' s4 := M3.keep S4 rfl rfl
            refine And.intro (fun q => absurd q (by decide)) (fun _ => ?_)
            obtain ⟨g1, g2, g3⟩ := got 45 s4 t4 Q4 X4 h24
            refine hP _ _ _ _ (And.intro g1 (And.intro (fun _ => ?_) (fun q => ?_)))
            · exact add 2 W' C' s4 (by omega) rfl t4 Q4 X4 M4 (yst _ (by rw [if_neg t1, if_neg t2, if_neg t3, if_pos t4]))
            · have q0 : gI s4 201 (gI s4 200 2 - nI 1).toNatClampNeg = nI 43 := q
              rw [g2, nI_eq (by omega) (by omega)] at q0
              omega
          · have Q4 : ySq σ s4 := Q3.tr (ySq.of S4 rfl)
            have M4 : MYq V W' C' o' s4 := M3.keep S4 rfl rfl
            have yst4 : ∀ y, (match lastM W' with
                | none => (2, [], C' ++ W', o', a')
                | some m => if m = 21 ∨ m = 22 then (if tp[a']? = some 44 then ynext (dropM W' C') o' (skp tp (a'+1)) else yflt (1, a')) else yflt (1, a')) = y → Rch true tp (1, W, C, o, a) y := fun y hy => yst y (by rw [if_neg t1, if_neg t2, if_neg t3, if_neg t4]; exact hy)
            refine And.intro (fun _ => ?_) (fun q => absurd rfl q)
            have at202 : ∀ (τ1 : AS) (f : Flt), ySq σ τ1 → Rch true tp (1, W, C, o, a) (yflt f) → YErq tp f τ1 → P 204 [some tM, z] [] τ1 := fun τ1 f q1 q2 q3 => hP _ _ _ _ ⟨nar0, q1, _, q2, Or.inr (Or.inr ⟨f, rfl, rfl, q3⟩)⟩
            -- min or max waits for its second
            have at167 : (lastM W' = some 21 ∨ lastM W' = some 22) → P 169 [some tM, z] [] s4 := by
              intro hm
              obtain ⟨m, hm1, hm2⟩ : ∃ m, lastM W' = some m ∧ (m = 21 ∨ m = 22) := by
                rcases hm with e | e
                · exact ⟨21, e, Or.inl rfl⟩
                · exact ⟨22, e, Or.inr rfl⟩
              refine hP _ _ _ _ ?_
              refine mcall (c_asksSign G g l (d+1) s4 tp (.ok a') ⟨_, O4⟩ _ 44 rfl (by omega) ⟨rfl, rfl⟩) (fun r s5 h9 => ?_)
              obtain ⟨rfl, S5, X5⟩ := h9
              have X5 : PX tp (askS tp 44 a') s5 := X5
              have Q5 : ySq σ s5 := Q4.tr (ySq.of S5 rfl)
              have M5 : MYq V W' C' o' s5 := M4.keep S5 rfl rfl
              by_cases t5 : tp[a']? = some 44
              · have hal := get_lt t5
                rw [show askS tp 44 a' = .ok (skp tp (a'+1)) from if_pos t5] at X5
                refine And.intro (fun _ => ?_) (fun q => absurd (PE.bad0 X5) q)
                refine mcall (c_qDropsToBracket G g l (d+1) s5 V W' C' o' M5) (fun r s6 h9 => ?_)
                obtain ⟨rfl, S6, H6, M6⟩ := h9
                have Q6 : ySq σ s6 := Q5.tr (ySq.ofA S6 rfl H6)
                obtain ⟨W1, d1, d2, U, d3, d4⟩ := dropM_last W' C' m hm1
                have d5 := dropM_len W' C'
                rw [d1] at M6 d5
                rw [List.length_cons] at d5
                have hk : gI s6 200 91 - nI 1 = nI (W1 ++ V).length := by rw [M6.1.2.1]; show nI ((W1 ++ V).length + 1) - nI 1 = _; rw [nI_s1 _ _ (by omega)]; rfl
                have hL1 : (W1 ++ V).length < 1600 := by rw [List.length_append]; omega
                have hin : vp_in (gI s6 200 91 - nI 1) 1700 := by rw [hk]; exact vinN (by omega) (by decide)
                have hg : gI s6 265 (gI s6 200 91 - nI 1).toNatClampNeg = nI m := by rw [hk, clN (by omega)]; exact M6.top.1
                refine And.intro hin (And.intro hin ?_)
                have X6 : PX tp (.ok (skp tp (a'+1))) s6 := X5.keep S6 rfl
                have hs := skp_ge tp (a'+1)
                have S7 : mS [] [265] s6 (sI s6 265 (gI s6 200 91 - nI 1).toNatClampNeg (gI s6 265 (gI s6 200 91 - nI 1).toNatClampNeg + nI 2)) := mS.rf.a rfl
                refine ⟨nar1, Q6.tr (ySq.ofW S7 rfl), (0, (m + 2) :: W1, (dropM W' C').2, o', skp tp (a'+1)), yst4 _ ?_, Or.inl ⟨(m + 2) :: W1, (dropM W' C').2, o', skp tp (a'+1), rfl, by omega, rfl, X6.keep S7 rfl, ⟨M6.1.alt (by rw [hk, clN (by omega)]; rfl) (by rw [hg, nI_add]) (by omega), ?_⟩, fun u hu => ?_, ?_, hI.2.2.1, ?_⟩⟩
                · rw [hm1]
                  show (if m = 21 ∨ m = 22 then _ else _) = _
                  rw [if_pos hm2, if_pos t5]
                  unfold ynext
                  rw [d1]
                · rw [S7.i 200 93 rfl rfl]; exact M6.2
                · rcases List.mem_cons.mp hu with e | e
                  · exact ⟨by omega, fun _ => by omega⟩
                  · exact hI.1 u (by rw [d3]; simp [e])
                · have := hI.2.1
                  rw [d3, cntM_app, cntM_c, if_pos (by omega)] at this
                  rw [cntM_c, if_pos (by omega)]
                  omega
                · rw [List.length_cons]
                  omega
              · rw [show askS tp 44 a' = .error (1, a') from if_neg t5] at X5
                refine And.intro (fun q => absurd q (pf_bad X5)) (fun _ => ⟨nar0, Q5, yflt (1, a'), yst4 _ ?_, Or.inr (Or.inr ⟨_, rfl, rfl, X5, C'.length, by omega, M5.1.1⟩)⟩)
                rw [hm1]
                show (if m = 21 ∨ m = 22 then _ else _) = _
                rw [if_pos hm2, if_neg t5]
            have at190 : ¬ (lastM W' = some 21 ∨ lastM W' = some 22) → P 192 [some tM, z] [] s4 := by
              intro hm
              refine hP _ _ _ _ ?_
              refine mcall (c_qBracket G g l (d+2) s4 V W' C' o' M4) (fun r s5 h9 => ?_)
              obtain ⟨rfl, rfl⟩ := h9
              refine And.intro (fun q => ?_) (fun q => And.intro (fun q2 => absurd O4.2.1 q2) (fun _ => ?_))
              · have q0 := (optI_none hL).mp q
                exact hP _ _ _ _ ⟨nar0, Q4, _, yst4 _ (by rw [q0]), Or.inr (Or.inl ⟨W', C', o', a', rfl, ha, rfl, ⟨_, O4⟩, M4, hI⟩)⟩
              · have q0 : ¬ lastM W' = none := fun e => q ((optI_none hL).mpr e)
                obtain ⟨m, hm1⟩ : ∃ m, lastM W' = some m := by
                  cases hm9 : lastM W' with
                  | none => exact absurd hm9 q0
                  | some m => exact ⟨m, rfl⟩
                refine mcall (c_fail0 G g l (d+3) s5 tp O4.1 O4.2.1 _ _ 1 a' rfl O4.2.2.1 (by omega) (by omega) (by omega)) (fun r s6 h9 => ?_)
                obtain ⟨rfl, S6, F6⟩ := h9
                refine at202 s6 (1, a') (Q4.tr (ySq.of S6 rfl)) (yst4 _ ?_) ⟨F6, C'.length, by omega, by rw [S6.i 200 89 rfl rfl]; exact M4.1.1⟩
                rw [hm1]
                show (if m = 21 ∨ m = 22 then _ else _) = _
                rw [if_neg (fun e => hm (by rcases e with e | e; exact Or.inl (by rw [hm1, e]); exact Or.inr (by rw [hm1, e])))]
            refine hP _ _ _ _ ?_
            refine mcall (c_qBracket G g l (d+2) s4 V W' C' o' M4) (fun r s5 h9 => ?_)
            obtain ⟨rfl, rfl⟩ := h9
            refine And.intro (fun q => at167 (Or.inl ((optI_eq hL (by omega)).mp q))) (fun q => ?_)
            refine mcall (c_qBracket G g l (d+2) s5 V W' C' o' M4) (fun r s5 h9 => ?_)
            obtain ⟨rfl, rfl⟩ := h9
            refine And.intro (fun q2 => at190 (fun e => ?_)) (fun q2 => at167 (Or.inr ((optI_eq hL (by omega)).mp q2)))
            rcases e with e | e
            · exact q ((optI_eq hL (by omega)).mpr e)
            · exact q2 ((optI_eq hL (by omega)).mpr e)
  -- brackets that are closed
  have key : ∀ (m : Nat) (W' C' : List Nat) (o' a' : Nat) (τ : AS) (z : Option AV), tp.length - a' < m → ySq σ τ → Rch true tp (1, W, C, o, a) (1, W', C', o', a') → a ≤ a' → YOkq tp V W' C' o' a' τ → P 0 [some tM, z] [] τ := by
    intro m
    induction m with
    | zero => intro W' C' o' a' τ z hm; omega
    | succ m ih =>
      intro W' C' o' a' τ z hm hS hR ha hO
      obtain ⟨hX, hM, hI⟩ := hO
      have hle := YOkq.le ⟨hX, hM, hI⟩
      have hL : ∀ v, lastM W' = some v → v ≤ 100 := fun v hv => by have := (hI.1 v (lastM_mem W' v hv).1).1; omega
      obtain ⟨a9, hX9⟩ := hX
      refine hP _ _ _ _ (And.intro (fun q => absurd hX9.2.1 q) (fun _ => ?_))
      refine mcall (c_look G g l (d+3) τ tp a' a9 hX9) (fun r s1 h9 => ?_)
      obtain ⟨rfl, S1, O1⟩ := h9
      have Q1 : ySq σ s1 := hS.tr (ySq.of S1 rfl)
      have M1 : MYq V W' C' o' s1 := hM.keep S1 rfl rfl
      have rst : ¬ (tp[a']? = some 41 ∧ isCl (lastM W') = true) → P 61 [some tM, z] [] s1 := rest W' C' o' a' s1 z Q1 hR ha ⟨⟨_, O1⟩, M1, hI⟩
      refine And.intro (fun q => rst (fun e => q ((byI_eq O1.1.1 a' 41 (by omega)).mpr e.1))) (fun q => ?_)
      have h41 : tp[a']? = some 41 := (byI_eq O1.1.1 a' 41 (by omega)).mp q
      have hal := get_lt h41
      have at19 : isCl (lastM W') = true → P 19 [some tM, z] [] s1 := by
        intro hcl
        obtain ⟨v, hv1, hv2⟩ : ∃ v, lastM W' = some v ∧ (v = 20 ∨ v = 23 ∨ v = 24) := by
          have := of_decide_eq_true hcl
          rcases this with e | e | e
          · exact ⟨20, e, by omega⟩
          · exact ⟨23, e, by omega⟩
          · exact ⟨24, e, by omega⟩
        have X2 := O1.inc h41 ⟨rfl, rfl⟩ (rfl : gI s1 200 2 + nI 1 = gI s1 200 2 + nI 1)
        have S2 : mS [2] [] s1 (sI s1 200 2 (gI s1 200 2 + nI 1)) := mS.rf.f rfl
        refine hP _ _ _ _ ?_
        refine mcall (c_qDropsToBracket G g l (d+1) (sI s1 200 2 (gI s1 200 2 + nI 1)) V W' C' o' (M1.keep S2 rfl rfl)) (fun r s3 h9 => ?_)
        obtain ⟨rfl, S3, H3, M3⟩ := h9
        have Q3 : ySq σ s3 := (Q1.tr (ySq.of S2 rfl)).tr (ySq.ofA S3 rfl H3)
        have X3 : PX tp (.ok (skp tp (a'+1))) s3 := X2.keep S3 rfl
        obtain ⟨W1, d1, d2, U, d3, d4⟩ := dropM_last W' C' v hv1
        have d5 := dropM_len W' C'
        rw [d1] at M3 d5
        rw [List.length_cons] at d5
        have hcnt : 1 + cntM W1 ≤ o' := by
          have := hI.2.1
          rw [d3, cntM_app, cntM_c, if_pos (by omega)] at this
          omega
        have hk : gI s3 200 91 - nI 1 = nI (W1 ++ V).length := by rw [M3.1.2.1]; show nI ((W1 ++ V).length + 1) - nI 1 = _; rw [nI_s1 _ _ (by omega)]; rfl
        have hL1 : (W1 ++ V).length < 1600 := by rw [List.length_append]; omega
        have M4 : MFq (W1 ++ V) (dropM W' C').2 o' (sI s3 200 91 (gI s3 200 91 - nI 1)) := M3.1.pop hk
        have M5 : MFq (W1 ++ V) (dropM W' C').2 (o' - 1) (sI (sI s3 200 91 (gI s3 200 91 - nI 1)) 200 92 (gI (sI s3 200 91 (gI s3 200 91 - nI 1)) 200 92 - nI 1)) := M4.deco rfl (by omega)
        have S5 : mS [91, 92] [] s3 (sI (sI s3 200 91 (gI s3 200 91 - nI 1)) 200 92 (gI (sI s3 200 91 (gI s3 200 91 - nI 1)) 200 92 - nI 1)) := (mS.rf.f rfl).f rfl
        have Q5 : ySq σ (sI (sI s3 200 91 (gI s3 200 91 - nI 1)) 200 92 (gI (sI s3 200 91 (gI s3 200 91 - nI 1)) 200 92 - nI 1)) := Q3.tr (ySq.of S5 rfl)
        have X5 : PX tp (.ok (skp tp (a'+1))) (sI (sI s3 200 91 (gI s3 200 91 - nI 1)) 200 92 (gI (sI s3 200 91 (gI s3 200 91 - nI 1)) 200 92 - nI 1)) := X3.keep S5 rfl
        have b5 : gI (sI (sI s3 200 91 (gI s3 200 91 - nI 1)) 200 92 (gI (sI s3 200 91 (gI s3 200 91 - nI 1)) 200 92 - nI 1)) 200 93 = nI V.length := by rw [S5.i 200 93 rfl rfl]; exact M3.2
        have w5 : gI (sI (sI s3 200 91 (gI s3 200 91 - nI 1)) 200 92 (gI (sI s3 200 91 (gI s3 200 91 - nI 1)) 200 92 - nI 1)) 200 91 = nI (W1 ++ V).length := M5.2.1
        have hin : vp_in (gI (sI (sI s3 200 91 (gI s3 200 91 - nI 1)) 200 92 (gI (sI s3 200 91 (gI s3 200 91 - nI 1)) 200 92 - nI 1)) 200 91) 1700 := by rw [w5]; exact vinN (by omega) (by decide)
        have hg : gI (sI (sI s3 200 91 (gI s3 200 91 - nI 1)) 200 92 (gI (sI s3 200 91 (gI s3 200 91 - nI 1)) 200 92 - nI 1)) 265 (gI (sI (sI s3 200 91 (gI s3 200 91 - nI 1)) 200 92 (gI (sI s3 200 91 (gI s3 200 91 - nI 1)) 200 92 - nI 1)) 200 91).toNatClampNeg = nI v := by
          rw [w5, clN (by omega), S5.ia 265 rfl rfl]
          exact M3.top.1
        have hWlow : ∀ x ∈ W1, x ≤ 62 ∧ (true = false → x < 60) := fun x hx => hI.1 x (by rw [d3]; simp [hx])
        have hs := skp_ge tp (a'+1)
        have hR9 : ∀ y, yclose (dropM W' C') o' (skp tp (a'+1)) = y → Rch true tp (1, W, C, o, a) y := by
          intro y hy
          refine hR.tr (Rch.one ?_ Rch.rf)
          show yG tp W' C' o' a' = y
          unfold yG
          rw [if_pos ⟨h41, hcl⟩]
          exact hy
        -- behind the bracket
        have nxt : ∀ (C9 : List Nat) (s6 : AS) (z9 : Option AV), ySq σ s6 → PX tp (.ok (skp tp (a'+1))) s6 → MYq V W1 C9 (o' - 1) s6 → C9.length + W1.length ≤ C'.length + W'.length → yclose (dropM W' C') o' (skp tp (a'+1)) = ymk (dropO W1 C9 (o' - 1)) (skp tp (a'+1)) → P 58 [some tM, z9] [] s6 := by
          intro C9 s6 z9 Q6 X6 M6 hc9 hy9
          refine hP _ _ _ _ ?_
          refine mcall (c_qEndsPart G g l (d+1) s6 V W1 C9 (o' - 1) M6 (PE.bad0 X6) (by omega)) (fun r s7 h9 => ?_)
          obtain ⟨rfl, S7, H7, M7⟩ := h9
          have k1 := dropO_len W1 C9 (o' - 1)
          have k2 := dropO_inv W1 C9 (o' - 1) (by omega)
          refine ih (dropO W1 C9 (o' - 1)).1 (dropO W1 C9 (o' - 1)).2.1 (dropO W1 C9 (o' - 1)).2.2 (skp tp (a'+1)) s7 z9 (by omega) (Q6.tr (ySq.ofA S7 rfl H7)) (hR9 _ hy9) (by omega) ⟨X6.keep S7 rfl, M7, fun x hx => hWlow x (k2.2.2 x hx), k2.1, by have := hI.2.2.1; omega, by omega⟩
        have hy : yclose (dropM W' C') o' (skp tp (a'+1)) = ymk (dropO W1 (if v = 20 then (dropM W' C').2 else (dropM W' C').2 ++ [if v = 23 then 5 else 6]) (o' - 1)) (skp tp (a'+1)) := by
          unfold yclose
          rw [d1]
        refine And.intro hin (And.intro (fun q9 => ?_) (fun q9 => And.intro hin ?_))
        · have q8 : gI (sI (sI s3 200 91 (gI s3 200 91 - nI 1)) 200 92 (gI (sI s3 200 91 (gI s3 200 91 - nI 1)) 200 92 - nI 1)) 265 (gI (sI (sI s3 200 91 (gI s3 200 91 - nI 1)) 200 92 (gI (sI s3 200 91 (gI s3 200 91 - nI 1)) 200 92 - nI 1)) 200 91).toNatClampNeg = nI 20 := q9
          rw [hg, nI_eq (by omega) (by omega)] at q8
          exact nxt (dropM W' C').2 (sI (sI s3 200 91 (gI s3 200 91 - nI 1)) 200 92 (gI (sI s3 200 91 (gI s3 200 91 - nI 1)) 200 92 - nI 1)) _ Q5 X5 ⟨M5, b5⟩ (by omega) (by rw [hy, if_pos q8])
        · have q8 : ¬ gI (sI (sI s3 200 91 (gI s3 200 91 - nI 1)) 200 92 (gI (sI s3 200 91 (gI s3 200 91 - nI 1)) 200 92 - nI 1)) 265 (gI (sI (sI s3 200 91 (gI s3 200 91 - nI 1)) 200 92 (gI (sI s3 200 91 (gI s3 200 91 - nI 1)) 200 92 - nI 1)) 200 91).toNatClampNeg = nI 20 := q9
          rw [hg, nI_eq (by omega) (by omega)] at q8
          have cd : ∀ (x : Int32), x = nI (if v = 23 then 5 else 6) → callP G (true, g) l (d+5) mX6_qCode [tM, iv x] (sI (sI s3 200 91 (gI s3 200 91 - nI 1)) 200 92 (gI (sI s3 200 91 (gI s3 200 91 - nI 1)) 200 92 - nI 1)) (fun r t => r = none ∧ P 58 [some tM, z] [] t) NoX := by
            intro x hx
            refine mcall (c_qCode G g l (d+3) (sI (sI s3 200 91 (gI s3 200 91 - nI 1)) 200 92 (gI (sI s3 200 91 (gI s3 200 91 - nI 1)) 200 92 - nI 1)) (W1 ++ V) (dropM W' C').2 (o' - 1) (if v = 23 then 5 else 6) M5 x hx (by rw [List.length_append]; omega)) (fun r s6 h9 => ?_)
            obtain ⟨rfl, S6, H6, M6⟩ := h9
            refine ⟨rfl, nxt _ s6 z (Q5.tr (ySq.ofA S6 rfl H6)) (X5.keep S6 rfl) ⟨M6, by rw [S6.i 200 93 rfl rfl]; exact b5⟩ ?_ (by rw [hy, if_neg q8])⟩
            rw [List.length_append]
            show (dropM W' C').2.length + 1 + _ ≤ _
            omega
          refine And.intro (fun q7 => ?_) (fun q7 => ?_)
          · have q6 : ¬ gI (sI (sI s3 200 91 (gI s3 200 91 - nI 1)) 200 92 (gI (sI s3 200 91 (gI s3 200 91 - nI 1)) 200 92 - nI 1)) 265 (gI (sI (sI s3 200 91 (gI s3 200 91 - nI 1)) 200 92 (gI (sI s3 200 91 (gI s3 200 91 - nI 1)) 200 92 - nI 1)) 200 91).toNatClampNeg = nI 23 := q7
            rw [hg, nI_eq (by omega) (by omega)] at q6
            obtain ⟨N9, X9, h1, h2, h3⟩ := cd (nI 6) (by rw [if_neg q6])
            exact ⟨N9, X9, h1, fun r s' h => by obtain ⟨e9, h8⟩ := h2 r s' h; subst e9; exact h8, fun s' h => (h3 s' h).elim⟩
          · have q6 : gI (sI (sI s3 200 91 (gI s3 200 91 - nI 1)) 200 92 (gI (sI s3 200 91 (gI s3 200 91 - nI 1)) 200 92 - nI 1)) 265 (gI (sI (sI s3 200 91 (gI s3 200 91 - nI 1)) 200 92 (gI (sI s3 200 91 (gI s3 200 91 - nI 1)) 200 92 - nI 1)) 200 91).toNatClampNeg = nI 23 := q7
            rw [hg, nI_eq (by omega) (by omega)] at q6
            obtain ⟨N9, X9, h1, h2, h3⟩ := cd (nI 5) (by rw [if_pos q6])
            exact ⟨N9, X9, h1, fun r s' h => by obtain ⟨e9, h8⟩ := h2 r s' h; subst e9; exact h8, fun s' h => (h3 s' h).elim⟩
      refine mcall (c_qBracket G g l (d+2) s1 V W' C' o' M1) (fun r s2 h9 => ?_)
      obtain ⟨rfl, rfl⟩ := h9
      refine And.intro (fun q1 => at19 (decide_eq_true (Or.inl ((optI_eq hL (by omega)).mp q1)))) (fun q1 => ?_)
      refine mcall (c_qBracket G g l (d+2) s2 V W' C' o' M1) (fun r s2 h9 => ?_)
      obtain ⟨rfl, rfl⟩ := h9
      refine And.intro (fun q2 => at19 (decide_eq_true (Or.inr (Or.inl ((optI_eq hL (by omega)).mp q2))))) (fun q2 => ?_)
      refine mcall (c_qBracket G g l (d+2) s2 V W' C' o' M1) (fun r s2 h9 => ?_)
      obtain ⟨rfl, rfl⟩ := h9
      refine And.intro (fun q3 => rst (fun e => ?_)) (fun q3 => at19 (decide_eq_true (Or.inr (Or.inr ((optI_eq hL (by omega)).mp q3)))))
      have := of_decide_eq_true e.2
      rcases this with e | e | e
      · exact q1 ((optI_eq hL (by omega)).mpr e)
      · exact q2 ((optI_eq hL (by omega)).mpr e)
      · exact q3 ((optI_eq hL (by omega)).mpr e)
  exact key (tp.length - a + 1) W C o a σ none (by omega) ySq.rf Rch.rf (Nat.le_refl _) h
end Y4_q

