/-! the yard: plain helpers -/
def cntM (W : List Nat) : Nat := (W.filter (fun v => decide (20 ≤ v))).length
theorem cntM_c (v : Nat) (W : List Nat) : cntM (v :: W) = (if 20 ≤ v then 1 else 0) + cntM W := by
  unfold cntM
  rw [List.filter_cons]
  by_cases h : 20 ≤ v
  · rw [if_pos (decide_eq_true h), if_pos h, List.length_cons]; omega
  · rw [if_neg (by rw [decide_eq_false h]; decide), if_neg h]; omega
/-- what holds of a yard all through -/
def YI (q : Bool) (V W C : List Nat) (o a : Nat) : Prop := (∀ v ∈ W, v ≤ 62 ∧ (q = false → v < 60)) ∧ cntM W ≤ o ∧ o ≤ 6 ∧ C.length + (W.length + V.length) < a
theorem rev_top (U W : List Nat) (v : Nat) : (U ++ v :: W).reverse[W.length]? = some v := by
  rw [List.reverse_append, List.reverse_cons, List.append_assoc, List.getElem?_append_right (by simp)]
  simp
theorem m1_lt {m b : Nat} (hm : m < 100000) (hb : b < 100000) : (nI m - nI 1 < nI b ↔ m ≤ b) := by
  rw [Int32.lt_iff_toInt_lt, pk_sub_toInt (by omega) (by omega), nI_toInt (by omega)]
  omega
theorem dropM_len : ∀ (W C : List Nat), (dropM W C).2.length + (dropM W C).1.length = C.length + W.length
  | [], C => by simp [dropM]
  | v :: W, C => by
    unfold dropM
    split
    · simp
    · have := dropM_len W (C ++ [v])
      simp only [List.length_append, List.length_cons, List.length_nil] at this ⊢
      omega
theorem dropM_last : ∀ (W C : List Nat) (v : Nat), lastM W = some v → ∃ W1, (dropM W C).1 = v :: W1 ∧ isMk v = true ∧ ∃ U, W = U ++ v :: W1 ∧ (∀ x ∈ U, isMk x = false)
  | [], C, v, h => by cases h
  | u :: W, C, v, h => by
    unfold lastM at h
    unfold dropM
    split at h
    · rename_i hu
      cases h
      rw [if_pos hu]
      exact ⟨W, rfl, hu, [], rfl, fun x hx => by cases hx⟩
    · rename_i hu
      rw [if_neg hu]
      obtain ⟨W1, h1, h2, U, h3, h4⟩ := dropM_last W (C ++ [u]) v h
      refine ⟨W1, h1, h2, u :: U, by rw [h3]; rfl, fun x hx => ?_⟩
      rcases List.mem_cons.mp hx with e | e
      · rw [e]; simpa using hu
      · exact h4 x e
theorem cntM_app (U W : List Nat) : cntM (U ++ W) = cntM U + cntM W := by unfold cntM; rw [List.filter_append, List.length_append]
theorem dropO_len : ∀ (W C : List Nat) (o : Nat), (dropO W C o).2.1.length + (dropO W C o).1.length = C.length + W.length
  | [], C, o => by simp [dropO]
  | v :: W, C, o => by
    unfold dropO
    split
    · have := dropO_len W (C ++ [v]) (o-1)
      simp only [List.length_append, List.length_cons, List.length_nil] at this ⊢
      omega
    · simp
theorem dropO_inv : ∀ (W C : List Nat) (o : Nat), cntM W ≤ o → cntM (dropO W C o).1 ≤ (dropO W C o).2.2 ∧ (dropO W C o).2.2 ≤ o ∧ ∀ x ∈ (dropO W C o).1, x ∈ W
  | [], C, o, h => ⟨h, Nat.le_refl _, fun x hx => hx⟩
  | v :: W, C, o, h => by
    rw [cntM_c] at h
    unfold dropO
    split
    · rename_i hv
      rw [if_pos (by omega)] at h
      obtain ⟨h1, h2, h3⟩ := dropO_inv W (C ++ [v]) (o-1) (by omega)
      exact ⟨h1, by omega, fun x hx => List.mem_cons_of_mem _ (h3 x hx)⟩
    · exact ⟨by rw [cntM_c]; exact h, Nat.le_refl _, fun x hx => hx⟩
theorem dropO_low {W C : List Nat} {o : Nat} (h : ∀ v ∈ W, v < 60) : dropO W C o = (W, C, o) := dropO_top (fun v hv => decide_eq_false (by
  have := h v (List.mem_of_mem_head? hv)
  omega)) C o
theorem dropP_len (p : Nat → Bool) : ∀ (W C : List Nat), (dropP p W C).2.length + (dropP p W C).1.length = C.length + W.length
  | [], C => by simp [dropP]
  | v :: W, C => by
    unfold dropP
    split
    · have := dropP_len p W (C ++ [v])
      simp only [List.length_append, List.length_cons, List.length_nil] at this ⊢
      omega
    · simp
theorem dropP_inv {p : Nat → Bool} (hp : ∀ v, p v = true → v < 20) : ∀ (W C : List Nat), cntM (dropP p W C).1 = cntM W ∧ ∀ x ∈ (dropP p W C).1, x ∈ W
  | [], C => ⟨rfl, fun x hx => hx⟩
  | v :: W, C => by
    unfold dropP
    split
    · rename_i hv
      obtain ⟨h1, h2⟩ := dropP_inv hp W (C ++ [v])
      have := hp v hv
      refine ⟨by rw [h1, cntM_c, if_neg (by omega)]; omega, fun x hx => List.mem_cons_of_mem _ (h2 x hx)⟩
    · exact ⟨rfl, fun x hx => hx⟩
theorem PO.inc {tp : List Nat} {a c : Nat} {σ : AS} {x : Int32} (h : PO tp a a σ) (hc : tp[a]? = some c) (hn : isL c = false ∧ isD c = false) (hx : x = gI σ 200 2 + nI 1) : PX tp (.ok (skp tp (a+1))) (sI σ 200 2 x) := by
  obtain ⟨p1, p2, p3, p4, p5, p6, e, p7, p8, p9, p10⟩ := h
  have hl := get_lt hc
  have S2 : mS [2] [] σ (sI σ 200 2 x) := mS.rf.f rfl
  refine ⟨a+1, p1.keep S2 rfl rfl, by rw [S2.i 200 5 rfl rfl]; exact p2, by rw [gI_sI, if_pos ⟨rfl, rfl⟩, hx, p3, nI_add], skp_ge tp (a+1), skp_le (by omega), rfl, e, by rw [S2.i 200 4 rfl rfl]; exact p7, by omega, ?_, by rw [S2.i 200 6 rfl rfl]; exact p10⟩
  have hs := skp_ge tp (a+1)
  have hpr : prLD tp (skp tp (a+1)) = false := by
    rcases Nat.lt_or_ge (a+1) (skp tp (a+1)) with h | h
    · exact skp_pr h
    · rw [show skp tp (a+1) = a + 1 by omega, prLD_s, isAt_some hc, isAt_some hc, hn.1, hn.2]; rfl
  rw [hpr]
  exact ⟨fun e9 => by omega, fun e9 => by cases e9⟩
theorem PF.inc {tp : List Nat} {f : Flt} {σ : AS} {x : Int32} (h : PF tp f σ) : PF tp f (sI σ 200 2 x) :=
  ⟨h.1.keep (fs := [2]) (ids := []) (mS.rf.f rfl) rfl rfl, by rw [gI_sI, if_neg (by omega)]; exact h.2.1, h.2.2.1, by rw [gI_sI, if_neg (by omega)]; exact h.2.2.2.1, h.2.2.2.2⟩
