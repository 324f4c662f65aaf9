/-! both tell the same codes -/
def notS (tp : List Nat) (a : Nat) (l : List Nat) : Prop := ∀ c, tp[a]? = some c → c ∉ l
def YR (q : Bool) (tp : List Nat) (s : YS) (W C : List Nat) (o : Nat) (p : Nat → Bool) (l : List Nat) (r : PR (List Nat)) : Prop := match r with
  | .ok x => ∃ ops C1, Rch q tp s (1, ops ++ W, C1, o, x.2) ∧ C1 ++ ops = C ++ x.1 ∧ (∀ v ∈ ops, p v = true) ∧ notS tp x.2 l
  | .error f => Rch q tp s (yflt f)
def YA (q : Bool) (tp : List Nat) (s : YS) (W C : List Nat) (o : Nat) (r : PR (List Nat)) : Prop := match r with
  | .ok x => Rch q tp s (ymk (dropO W (C ++ x.1) o) x.2)
  | .error f => Rch q tp s (yflt f)
def isOf (v : Nat) : Bool := decide (60 ≤ v)
theorem YR.pre {q : Bool} {tp : List Nat} {s t : YS} {W C : List Nat} {o : Nat} {p : Nat → Bool} {l : List Nat} {r : PR (List Nat)} (h1 : Rch q tp s t) (h : YR q tp t W C o p l r) : YR q tp s W C o p l r := by
  cases r with
  | ok x => obtain ⟨ops, C1, a1, a2⟩ := h; exact ⟨ops, C1, h1.tr a1, a2⟩
  | error f => exact h1.tr h
theorem isMul_op {v : Nat} (h : isMul v = true) : isOp v = true := by
  have := of_decide_eq_true h
  exact decide_eq_true (by omega)
theorem okThen_some {r : PRs} {k : List Nat → Nat → PRs} {z : PR (List Nat)} (h : okThen r k = some z) : (∃ x, r = some (.ok x) ∧ k x.1 x.2 = some z) ∨ (∃ f, r = some (.error f) ∧ z = .error f) := by
  cases r with
  | none => cases h
  | some y =>
    cases y with
    | ok x => exact Or.inl ⟨x, rfl, h⟩
    | error f => exact Or.inr ⟨f, rfl, by cases h; rfl⟩
theorem posThen_some {r : Pos} {k : Nat → PRs} {z : PR (List Nat)} (h : posThen r k = some z) : (∃ a, r = .ok a ∧ k a = some z) ∨ (∃ f, r = .error f ∧ z = .error f) := by
  cases r with
  | ok a => exact Or.inl ⟨a, rfl, h⟩
  | error f => exact Or.inr ⟨f, rfl, by cases h; rfl⟩
theorem askS_ok {tp : List Nat} {c a b : Nat} (h : askS tp c a = .ok b) : tp[a]? = some c ∧ b = skp tp (a+1) := by
  unfold askS at h
  split at h
  · rename_i e; cases h; exact ⟨e, rfl⟩
  · cases h
theorem askS_er {tp : List Nat} {c a : Nat} {f : Flt} (h : askS tp c a = .error f) : ¬ tp[a]? = some c ∧ f = (1, a) := by
  unfold askS at h
  split at h
  · cases h
  · rename_i e; cases h; exact ⟨e, rfl⟩
theorem yG_close {tp ops W C1 : List Nat} {v o a : Nat} (h : tp[a]? = some 41) (hops : ∀ x ∈ ops, isOp x = true) (hv : v = 20 ∨ v = 23 ∨ v = 24) : yG tp (ops ++ v :: W) C1 o a = ymk (dropO W (if v = 20 then C1 ++ ops else C1 ++ ops ++ [if v = 23 then 5 else 6]) (o - 1)) (skp tp (a+1)) := by
  have hm : isMk v = true := decide_eq_true (by omega)
  have e1 : lastM (ops ++ v :: W) = some v := by
    rw [lastM_ops _ _ hops]
    show (if isMk v = true then some v else lastM W) = _
    rw [if_pos hm]
  have e2 : dropM (ops ++ v :: W) C1 = (v :: W, C1 ++ ops) := by
    rw [dropM_ops _ _ _ hops]
    show (if isMk v = true then (v :: W, C1 ++ ops) else _) = _
    rw [if_pos hm]
  unfold yG
  rw [e1, if_pos ⟨h, decide_eq_true (by rcases hv with rfl | rfl | rfl <;> simp)⟩, e2]
  rfl
theorem yG_mark {tp ops W C1 : List Nat} {v o a : Nat} (hn : notS tp a [42, 47, 43, 45]) (h41 : ¬ tp[a]? = some 41 ∨ v = 21 ∨ v = 22) (hops : ∀ x ∈ ops, isOp x = true) (hv : isMk v = true) : yG tp (ops ++ v :: W) C1 o a = if v = 21 ∨ v = 22 then (if tp[a]? = some 44 then (0, (v+2) :: W, C1 ++ ops, o, skp tp (a+1)) else yflt (1, a)) else yflt (1, a) := by
  have e1 : lastM (ops ++ v :: W) = some v := by
    rw [lastM_ops _ _ hops]
    show (if isMk v = true then some v else lastM W) = _
    rw [if_pos hv]
  have e2 : dropM (ops ++ v :: W) C1 = (v :: W, C1 ++ ops) := by
    rw [dropM_ops _ _ _ hops]
    show (if isMk v = true then (v :: W, C1 ++ ops) else _) = _
    rw [if_pos hv]
  unfold yG
  rw [e1, e2]
  rw [if_neg (fun q => ?_), if_neg (fun q => hn 42 q (by simp)), if_neg (fun q => hn 47 q (by simp)), if_neg (fun q => hn 43 q (by simp)), if_neg (fun q => hn 45 q (by simp))]
  · rfl
  · rcases h41 with e | e | e
    · exact e q.1
    · have := of_decide_eq_true q.2; rw [e] at this; simp at this
    · have := of_decide_eq_true q.2; rw [e] at this; simp at this
theorem yG_done {tp ops C1 : List Nat} {o a : Nat} (hn : notS tp a [42, 47, 43, 45]) (hops : ∀ x ∈ ops, isOp x = true) : yG tp ops C1 o a = (2, [], C1 ++ ops, o, a) := by
  have e1 : lastM ops = none := by
    have := lastM_ops ops [] hops
    rw [List.append_nil] at this
    rw [this]
    rfl
  unfold yG
  rw [e1]
  rw [if_neg (fun q => ?_), if_neg (fun q => hn 42 q (by simp)), if_neg (fun q => hn 47 q (by simp)), if_neg (fun q => hn 43 q (by simp)), if_neg (fun q => hn 45 q (by simp))]
  have := of_decide_eq_true q.2
  simp at this
theorem yG_op {ops W C1 : List Nat} {p : Nat → Bool} (hops : ∀ x ∈ ops, p x = true) (hW : topN p W) : dropP p (ops ++ W) C1 = (W, C1 ++ ops) := by
  rw [dropP_ops _ _ _ hops, dropP_top hW]
theorem prs_yard (q : Bool) (tp : List Nat) : ∀ (f : Nat),
    (∀ o a W C r, topN isOp W → topN isOf W → prs q tp f 0 o [] a = some r → YR q tp (0, W, C, o, a) W C o isOp [42, 47, 43, 45] r) ∧
    (∀ o a W C r, topN isMul W → topN isOf W → prs q tp f 1 o [] a = some r → YR q tp (0, W, C, o, a) W C o isMul [42, 47] r) ∧
    (∀ o a W C r, prs q tp f 2 o [] a = some r → YA q tp (0, W, C, o, a) W C o r) ∧
    (∀ o a acc W C ops C1 r, topN isOp W → topN isOf W → C1 ++ ops = C ++ acc → (∀ v ∈ ops, isOp v = true) → notS tp a [42, 47] → prs q tp f 3 o acc a = some r → YR q tp (1, ops ++ W, C1, o, a) W C o isOp [42, 47, 43, 45] r) ∧
    (∀ o a acc W C ops C1 r, topN isMul W → topN isOf W → C1 ++ ops = C ++ acc → (∀ v ∈ ops, isMul v = true) → prs q tp f 4 o acc a = some r → YR q tp (1, ops ++ W, C1, o, a) W C o isMul [42, 47] r) := by
  intro f
  induction f with
  | zero => refine ⟨?_, ?_, ?_, ?_, ?_⟩ <;> (intros; rename_i h; cases h)
  | succ f ih =>
    obtain ⟨i0, i1, i2, i3, i4⟩ := ih
    refine ⟨?_, ?_, ?_, ?_, ?_⟩
    · intro o a W C r hW hO h
      rcases okThen_some h with ⟨x, h1, h2⟩ | ⟨e, h1, rfl⟩
      · have hm : topN isMul W := fun v hv => by
          have := hW v hv
          cases hc : isMul v with
          | false => rfl
          | true => rw [isMul_op hc] at this; cases this
        obtain ⟨ops, C1, a1, a2, a3, a4⟩ := i1 o a W C _ hm hO h1
        exact YR.pre a1 (i3 o x.2 x.1 W C ops C1 r hW hO a2 (fun v hv => isMul_op (a3 v hv)) a4 h2)
      · have hm : topN isMul W := fun v hv => by
          have := hW v hv
          cases hc : isMul v with
          | false => rfl
          | true => rw [isMul_op hc] at this; cases this
        exact i1 o a W C _ hm hO h1
    · intro o a W C r hW hO h
      rcases okThen_some h with ⟨x, h1, h2⟩ | ⟨e, h1, rfl⟩
      · have a1 : Rch q tp (0, W, C, o, a) (ymk (dropO W (C ++ x.1) o) x.2) := i2 o a W C _ h1
        rw [dropO_top hO] at a1
        exact YR.pre a1 (i4 o x.2 x.1 W C [] (C ++ x.1) r hW hO (by simp) (fun v hv => by simp at hv) h2)
      · exact i2 o a W C _ h1
    · intro o a W C r h
      by_cases h40 : tp[a]? = some 40
      · have hs : ystep q tp (0, W, C, o, a) = if o = 6 then yflt (4, a) else (0, 20 :: W, C, o + 1, skp tp (a+1)) := if_pos h40
        have h : (if tp[a]? = some 40 then (if o = 6 then some (.error (4, a)) else okThen (prs q tp f 0 (o+1) [] (skp tp (a+1))) (fun cs a1 => posThen (askS tp 41 a1) (fun a2 => some (.ok (cs, a2))))) else _) = some r := h
        rw [if_pos h40] at h
        by_cases h6 : o = 6
        · rw [if_pos h6] at h hs
          cases h
          exact Rch.one hs Rch.rf
        · rw [if_neg h6] at h hs
          have ht : topN isOp (20 :: W) := fun v hv => by cases hv; rfl
          have hto : topN isOf (20 :: W) := fun v hv => by cases hv; rfl
          rcases okThen_some h with ⟨x, h1, h2⟩ | ⟨e, h1, rfl⟩
          · obtain ⟨ops, C1, a1, a2, a3, a4⟩ := i0 (o+1) _ (20 :: W) C _ ht hto h1
            rcases posThen_some h2 with ⟨b, h3, h4⟩ | ⟨e, h3, rfl⟩
            · obtain ⟨h5, rfl⟩ := askS_ok h3
              cases h4
              refine Rch.one hs (a1.tr (Rch.one (t := _) (show ystep q tp (1, ops ++ 20 :: W, C1, o + 1, x.2) = _ from yG_close h5 a3 (Or.inl rfl)) ?_))
              rw [if_pos rfl, a2]
              exact Rch.rf
            · obtain ⟨h5, rfl⟩ := askS_er h3
              refine Rch.one hs (a1.tr (Rch.one (show ystep q tp (1, ops ++ 20 :: W, C1, o + 1, x.2) = _ from yG_mark a4 (Or.inl h5) a3 rfl) ?_))
              rw [if_neg (by omega)]
              exact Rch.rf
          · exact Rch.one hs (i0 (o+1) _ (20 :: W) C _ ht hto h1)
      · unfold prs at h
        rw [if_neg h40] at h
        have hs : ystep q tp (0, W, C, o, a) = yP q tp W C o a := rfl
        unfold yP at hs
        rw [if_neg h40] at hs
        cases hmm : findW tp mmL a with
        | some x =>
          rw [hmm] at h hs
          simp only at h hs
          have hx := findW_mm hmm
          by_cases hb : tp[skp tp (a + x.2)]? = some 40
          · rw [if_pos hb] at h hs
            by_cases h6 : o = 6
            · rw [if_pos h6] at h hs
              cases h
              exact Rch.one hs Rch.rf
            · rw [if_neg h6] at h hs
              have mk1 : isMk (20 + x.1) = true := decide_eq_true (by omega)
              have mk2 : isMk (20 + x.1 + 2) = true := decide_eq_true (by omega)
              have ht : topN isOp ((20 + x.1) :: W) := fun v hv => by cases hv; exact decide_eq_false (by omega)
              have hto : topN isOf ((20 + x.1) :: W) := fun v hv => by cases hv; exact decide_eq_false (by omega)
              have ht2 : topN isOp ((20 + x.1 + 2) :: W) := fun v hv => by cases hv; exact decide_eq_false (by omega)
              have hto2 : topN isOf ((20 + x.1 + 2) :: W) := fun v hv => by cases hv; exact decide_eq_false (by omega)
              rcases okThen_some h with ⟨y, h1, h2⟩ | ⟨e, h1, rfl⟩
              · obtain ⟨ops, C1, a1, a2, a3, a4⟩ := i0 (o+1) _ ((20 + x.1) :: W) C _ ht hto h1
                rcases posThen_some h2 with ⟨b, h3, h4⟩ | ⟨e, h3, rfl⟩
                · obtain ⟨h5, rfl⟩ := askS_ok h3
                  have st1 : ystep q tp (1, ops ++ (20 + x.1) :: W, C1, o + 1, y.2) = (0, (20 + x.1 + 2) :: W, C ++ y.1, o + 1, skp tp (y.2 + 1)) := by
                    have := yG_mark (o := o + 1) (W := W) (C1 := C1) a4 (Or.inr (by omega)) a3 mk1
                    rw [if_pos (by omega), if_pos h5, a2] at this
                    exact this
                  have r1 : Rch q tp (0, W, C, o, a) (0, (20 + x.1 + 2) :: W, C ++ y.1, o + 1, skp tp (y.2 + 1)) := Rch.one hs (a1.tr (Rch.one st1 Rch.rf))
                  rcases okThen_some h4 with ⟨z, k1, k2⟩ | ⟨e, k1, rfl⟩
                  · obtain ⟨ops2, C2, b1, b2, b3, b4⟩ := i0 (o+1) _ ((20 + x.1 + 2) :: W) (C ++ y.1) _ ht2 hto2 k1
                    rcases posThen_some k2 with ⟨b', k3, k4⟩ | ⟨e, k3, rfl⟩
                    · obtain ⟨k5, rfl⟩ := askS_ok k3
                      cases k4
                      refine r1.tr (b1.tr (Rch.one (show ystep q tp (1, ops2 ++ (20 + x.1 + 2) :: W, C2, o + 1, z.2) = _ from yG_close k5 b3 (by omega)) ?_))
                      rw [if_neg (by omega), b2]
                      have e5 : (if 20 + x.1 + 2 = 23 then 5 else 6) = 4 + x.1 := by
                        rcases hx with e | e
                        · rw [e]; rfl
                        · rw [e]; rfl
                      rw [e5]
                      show Rch q tp (ymk (dropO W (C ++ y.1 ++ z.1 ++ [4 + x.1]) (o + 1 - 1)) _) (ymk (dropO W (C ++ (y.1 ++ z.1 ++ [4 + x.1])) o) _)
                      rw [show C ++ (y.1 ++ z.1 ++ [4 + x.1]) = C ++ y.1 ++ z.1 ++ [4 + x.1] by simp, Nat.add_sub_cancel]
                      exact Rch.rf
                    · obtain ⟨k5, rfl⟩ := askS_er k3
                      refine r1.tr (b1.tr (Rch.one (show ystep q tp (1, ops2 ++ (20 + x.1 + 2) :: W, C2, o + 1, z.2) = _ from yG_mark b4 (Or.inl k5) b3 mk2) ?_))
                      rw [if_neg (by omega)]
                      exact Rch.rf
                  · exact r1.tr (i0 (o+1) _ ((20 + x.1 + 2) :: W) (C ++ y.1) _ ht2 hto2 k1)
                · obtain ⟨h5, rfl⟩ := askS_er h3
                  refine Rch.one hs (a1.tr (Rch.one (show ystep q tp (1, ops ++ (20 + x.1) :: W, C1, o + 1, y.2) = _ from yG_mark a4 (Or.inr (by omega)) a3 mk1) ?_))
                  rw [if_pos (by omega), if_neg h5]
                  exact Rch.rf
              · exact Rch.one hs (i0 (o+1) _ ((20 + x.1) :: W) C _ ht hto h1)
          · rw [if_neg hb] at h hs
            cases h
            exact Rch.one hs Rch.rf
        | none =>
          rw [hmm] at h hs
          simp only at h hs
          cases hof : findW tp (ofL q) a with
          | some x =>
            rw [hof] at h hs
            simp only at h hs
            have hx := findW_of hof
            by_cases h6 : o = 6
            · rw [if_pos h6] at h hs
              cases h
              exact Rch.one hs Rch.rf
            · rw [if_neg h6] at h hs
              rcases okThen_some h with ⟨y, h1, h2⟩ | ⟨e, h1, rfl⟩
              · cases h2
                have a1 : Rch q tp (0, x.1 :: W, C, o + 1, skp tp (a + x.2)) (ymk (dropO (x.1 :: W) (C ++ y.1) (o + 1)) y.2) := i2 (o+1) _ (x.1 :: W) C _ h1
                refine Rch.one hs ?_
                have e1 : dropO (x.1 :: W) (C ++ y.1) (o + 1) = dropO W (C ++ (y.1 ++ [x.1])) o := by
                  show (if 60 ≤ x.1 then dropO W (C ++ y.1 ++ [x.1]) (o + 1 - 1) else _) = _
                  rw [if_pos hx.1, List.append_assoc]
                  rfl
                rw [e1] at a1
                exact a1
              · exact Rch.one hs (i2 (o+1) _ (x.1 :: W) C _ h1)
          | none =>
            rw [hof] at h hs
            simp only at h hs
            cases hpt : findW tp (partL q) a with
            | some x =>
              rw [hpt] at h hs
              simp only at h hs
              cases h
              exact Rch.one hs Rch.rf
            | none =>
              rw [hpt] at h hs
              simp only at h hs
              cases hnm : numF tp 0 9999 a with
              | ok x =>
                rw [hnm] at h hs
                simp only at h hs
                cases h
                exact Rch.one hs Rch.rf
              | error e =>
                rw [hnm] at h hs
                simp only at h hs
                cases h
                exact Rch.one hs Rch.rf
    · intro o a acc W C ops C1 r hW hO hC hops hn h
      have key : ∀ (c v : Nat), tp[a]? = some c → isMul v = false → isOp v = true → isOf v = false → ystep q tp (1, ops ++ W, C1, o, a) = (0, v :: W, C ++ acc, o, skp tp (a+1)) → okThen (prs q tp f 1 o [] (skp tp (a+1))) (fun cs a1 => prs q tp f 3 o (acc ++ cs ++ [v]) a1) = some r → YR q tp (1, ops ++ W, C1, o, a) W C o isOp [42, 47, 43, 45] r := by
        intro c v hc hm hv hvo hs h
        have t1 : topN isMul (v :: W) := fun u hu => by cases hu; exact hm
        have t2 : topN isOf (v :: W) := fun u hu => by cases hu; exact hvo
        rcases okThen_some h with ⟨x, h1, h2⟩ | ⟨e, h1, rfl⟩
        · obtain ⟨ops2, C2, a1, a2, a3, a4⟩ := i1 o _ (v :: W) (C ++ acc) _ t1 t2 h1
          have a1' : Rch q tp (1, ops ++ W, C1, o, a) (1, (ops2 ++ [v]) ++ W, C2, o, x.2) := by
            rw [List.append_assoc]
            exact Rch.one hs a1
          refine YR.pre a1' (i3 o x.2 _ W C (ops2 ++ [v]) C2 r hW hO ?_ ?_ a4 h2)
          · rw [← List.append_assoc, a2]
            simp
          · intro u hu
            rcases List.mem_append.mp hu with e | e
            · exact isMul_op (a3 u e)
            · have e : u = v := by simpa using e
              rw [e]; exact hv
        · exact Rch.one hs (i1 o _ (v :: W) (C ++ acc) _ t1 t2 h1)
      have hG : ystep q tp (1, ops ++ W, C1, o, a) = yG tp (ops ++ W) C1 o a := rfl
      unfold prs at h
      by_cases h43 : tp[a]? = some 43
      · rw [if_pos h43] at h
        refine key 43 1 h43 rfl rfl rfl ?_ h
        rw [hG]
        unfold yG
        rw [if_neg (fun e => by rw [h43] at e; exact absurd e.1 (by simp)), if_neg (fun e => hn 42 e (by simp)), if_neg (fun e => hn 47 e (by simp)), if_pos h43, yG_op hops hW, hC]
        rfl
      · rw [if_neg h43] at h
        by_cases h45 : tp[a]? = some 45
        · rw [if_pos h45] at h
          refine key 45 2 h45 rfl rfl rfl ?_ h
          rw [hG]
          unfold yG
          rw [if_neg (fun e => by rw [h45] at e; exact absurd e.1 (by simp)), if_neg (fun e => hn 42 e (by simp)), if_neg (fun e => hn 47 e (by simp)), if_neg h43, if_pos h45, yG_op hops hW, hC]
          rfl
        · rw [if_neg h45] at h
          cases h
          refine ⟨ops, C1, Rch.rf, hC, hops, fun c hc hm => ?_⟩
          simp only [List.mem_cons, List.not_mem_nil, or_false] at hm
          rcases hm with rfl | rfl | rfl | rfl
          · exact hn 42 hc (by simp)
          · exact hn 47 hc (by simp)
          · exact h43 hc
          · exact h45 hc
    · intro o a acc W C ops C1 r hW hO hC hops h
      have key : ∀ (v : Nat), isMul v = true → isOf v = false → ystep q tp (1, ops ++ W, C1, o, a) = (0, v :: W, C ++ acc, o, skp tp (a+1)) → okThen (prs q tp f 2 o [] (skp tp (a+1))) (fun cs a1 => prs q tp f 4 o (acc ++ cs ++ [v]) a1) = some r → YR q tp (1, ops ++ W, C1, o, a) W C o isMul [42, 47] r := by
        intro v hv hvo hs h
        have t2 : topN isOf (v :: W) := fun u hu => by cases hu; exact hvo
        rcases okThen_some h with ⟨x, h1, h2⟩ | ⟨e, h1, rfl⟩
        · have a1 : Rch q tp (0, v :: W, C ++ acc, o, skp tp (a+1)) (ymk (dropO (v :: W) (C ++ acc ++ x.1) o) x.2) := i2 o _ (v :: W) (C ++ acc) _ h1
          rw [dropO_top t2] at a1
          refine YR.pre (Rch.one hs a1) (i4 o x.2 _ W C [v] (C ++ acc ++ x.1) r hW hO (by simp) ?_ h2)
          intro u hu
          have e : u = v := by simpa using hu
          rw [e]; exact hv
        · exact Rch.one hs (i2 o _ (v :: W) (C ++ acc) _ h1)
      have hG : ystep q tp (1, ops ++ W, C1, o, a) = yG tp (ops ++ W) C1 o a := rfl
      unfold prs at h
      by_cases h42 : tp[a]? = some 42
      · rw [if_pos h42] at h
        refine key 3 rfl rfl ?_ h
        rw [hG]
        unfold yG
        rw [if_neg (fun e => by rw [h42] at e; exact absurd e.1 (by simp)), if_pos h42, yG_op hops hW, hC]
        rfl
      · rw [if_neg h42] at h
        by_cases h47 : tp[a]? = some 47
        · rw [if_pos h47] at h
          refine key 4 rfl rfl ?_ h
          rw [hG]
          unfold yG
          rw [if_neg (fun e => by rw [h47] at e; exact absurd e.1 (by simp)), if_neg h42, if_pos h47, yG_op hops hW, hC]
          rfl
        · rw [if_neg h47] at h
          cases h
          refine ⟨ops, C1, Rch.rf, hC, hops, fun c hc hm => ?_⟩
          simp only [List.mem_cons, List.not_mem_nil, or_false] at hm
          rcases hm with rfl | rfl
          · exact h42 hc
          · exact h47 hc
/-- a whole sum -/
theorem prs_yard0 {q : Bool} {tp : List Nat} {f o a : Nat} {C : List Nat} {r : PR (List Nat)} (h : prs q tp f 0 o [] a = some r) : Rch q tp (0, [], C, o, a) (match r with
    | .ok x => (2, [], C ++ x.1, o, x.2)
    | .error e => yflt e) := by
  have := (prs_yard q tp f).1 o a [] C r (fun v hv => by cases hv) (fun v hv => by cases hv) h
  cases r with
  | error e => exact this
  | ok x =>
    obtain ⟨ops, C1, a1, a2, a3, a4⟩ := this
    rw [List.append_nil] at a1
    refine a1.tr (Rch.one (show ystep q tp (1, ops, C1, o, x.2) = _ from yG_done a4 a3) ?_)
    rw [a2]
    exact Rch.rf
