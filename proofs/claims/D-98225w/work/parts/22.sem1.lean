/-! WHAT AN ABSTRACT STATE SAYS OF THE HEAP -/
abbrev CX : Type := va_G × (Nat → ClassId) × Nat × Nat × Heap × (Nat → Nat)
def ad (G : CX) : Nat ⊕ Nat → Nat
  | .inl a => G.2.2.1 + a
  | .inr j => G.2.2.2.2.2 j
def rv (G : CX) (r : AR) : Value := va_rf (r.map (ad G))
def cv (G : CX) : AV → Value
  | .inl x => .int x
  | .inr (.inl x) => .long x
  | .inr (.inr r) => rv G r
def fval (G : CX) (ph : Bool) (s : AS) (a k t : Nat) : Value := match t with
  | 6 => .long (gL s a k)
  | 7 => rv G (gR ph s a k)
  | _ => .int (gI s a k)
def aval (G : CX) (ph : Bool) (s : AS) (a t : Nat) : (Nat → Int32) ⊕ (Nat → Int64) ⊕ (Nat → UInt32) ⊕ (Nat → UInt64) ⊕ (Nat → Option Nat) := match t with
  | 1 => .inl (gI s a)
  | 2 => .inl (gI s a)
  | 3 => .inl (gI s a)
  | 4 => .inl (gI s a)
  | 5 => .inl (gI s a)
  | 6 => .inr (.inl (gL s a))
  | _ => .inr (.inr (.inr (.inr (fun j => (gR ph s a j).map (ad G)))))
def getC : List (List Nat) → Nat → List Nat
  | [], _ => []
  | x :: _, 0 => x
  | _ :: t, n+1 => getC t n
def getK : List Nat → Nat → Nat
  | [], _ => 0
  | x :: _, 0 => x
  | _ :: t, n+1 => getK t n
def ftc (c k : Nat) : Nat := getK (getC ftcL c) k
def nfc (c : Nat) : Nat := (getC ftcL c).length
def cellOf (G : CX) (ph : Bool) (s : AS) (a : Nat) : va_E := match (kd ph s a).1 with
  | 0 => .inr ((kd ph s a).2, (List.range (nfc (kd ph s a).2)).map (fun k => fval G ph s a k (ftc (kd ph s a).2 k)))
  | t+1 => .inl (G.2.1 (t+1), (kd ph s a).2, aval G ph s a (t+1))
def tot (H : Heap) : Nat := (H.toList.map (fun c => c.slots.size)).sum
def Hold (G : CX) (ph : Bool) (s : AS) (H : Heap) : Prop :=
  H.size = G.2.2.1 + zn s ∧ tot H = G.2.2.2.1 + zu s ∧ (∀ a, a < G.2.2.1 → H[a]? = G.2.2.2.2.1[a]?) ∧ (ph = true → NF ≤ zn s) ∧ (zn s ≤ CMAX ∧ zu s ≤ SMAX) ∧
    ∀ a, (kd ph s a).1 ≤ 10 → va_at G.1 clT (G.2.2.1 + a, cellOf G ph s a) H
def LsOK (G : CX) (la : Array Slot) (nL : Nat) (ls : LSt) : Prop := la.size = nL ∧ ls.length = nL ∧ lv_wf la ∧ ∀ i v, getL ls i = some v → la[i]? = some (.val (cv G v))
theorem cv_cat (G : CX) (v : AV) : (cv G v).category = acat v := by
  rcases v with x | x | r
  · rfl
  · rfl
  · rcases r with _ | a
    · rfl
    · rfl
theorem cv_scat (G : CX) : ∀ st : List AV, ((st.map (cv G)).map (fun v => v.category)).sum = scat st
  | [] => rfl
  | v :: t => by
    simp only [List.map_cons, List.sum_cons, scat, cv_cat]
    rw [cv_scat G t]
theorem getL_lt : ∀ (l : LSt) (i : Nat) (v : AV), getL l i = some v → i < l.length
  | [], _, _, h => by simp [getL] at h
  | _ :: t, 0, _, _ => by simp
  | _ :: t, n+1, v, h => by
    have := getL_lt t n v h
    simp only [List.length_cons]
    omega
theorem setO_len : ∀ (l : LSt) (i : Nat) (v : Option AV), (setO l i v).length = l.length
  | [], _, _ => rfl
  | _ :: t, 0, _ => rfl
  | _ :: t, n+1, v => by simp [setO, setO_len t n v]
theorem getL_setO : ∀ (l : LSt) (i j : Nat) (v : Option AV), i < l.length → getL (setO l i v) j = if j = i then v else getL l j
  | [], _, _, _, h => by simp at h
  | x :: t, 0, 0, v, _ => by simp [setO, getL]
  | x :: t, 0, j+1, v, _ => by simp [setO, getL]
  | x :: t, n+1, 0, v, _ => by simp [setO, getL]
  | x :: t, n+1, j+1, v, h => by
    have := getL_setO t n j v (by simpa using h)
    simp [setO, getL, this]
theorem cutL_len (l : LSt) (i : Nat) : (cutL l i).length = l.length := by
  cases i with
  | zero => rfl
  | succ i =>
    simp only [cutL]
    split
    · exact setO_len _ _ _
    · rfl
theorem getL_cutL (l : LSt) (i j : Nat) (v : AV) (h : getL (cutL l i) j = some v) : getL l j = some v ∧ ¬ (j + 1 = i ∧ acat v = 2) := by
  cases i with
  | zero => exact ⟨h, by omega⟩
  | succ i =>
    simp only [cutL] at h
    split at h
    · rename_i hj
      by_cases hi : i < l.length
      · rw [getL_setO _ _ _ _ hi] at h
        by_cases e : j = i
        · simp [e] at h
        · rw [if_neg e] at h
          exact ⟨h, by omega⟩
      · exfalso
        cases hg : getL l i with
        | none => rw [hg] at hj; simp [isJ] at hj
        | some w => exact hi (getL_lt _ _ _ hg)
    · rename_i hj
      refine ⟨h, ?_⟩
      rintro ⟨e, hc⟩
      have e : j = i := by omega
      subst e
      rw [h] at hj
      rcases v with x | x | r
      · simp [acat] at hc
      · simp [isJ] at hj
      · simp [acat] at hc
/-- the listed locals, for the kit's rows -/
def lvl (G : CX) (ls : LSt) : List (Nat × Value) := (List.range ls.length).filterMap (fun i => (getL ls i).map (fun v => (i, cv G v)))
theorem mem_lvl {G : CX} {ls : LSt} {i : Nat} {v : AV} (h : getL ls i = some v) : (i, cv G v) ∈ lvl G ls :=
  List.mem_filterMap.mpr ⟨i, List.mem_range.mpr (getL_lt _ _ _ h), by rw [h]; rfl⟩
theorem LsOK.has {G : CX} {la : Array Slot} {nL : Nat} {ls : LSt} (h : LsOK G la nL ls) : lv_has la nL (lvl G ls) := by
  refine ⟨h.1, h.2.2.1, fun q hq => ?_⟩
  obtain ⟨i, -, hi⟩ := List.mem_filterMap.mp hq
  cases hg : getL ls i with
  | none => rw [hg] at hi; simp at hi
  | some v =>
    rw [hg] at hi
    simp at hi
    subst hi
    exact h.2.2.2 i v hg
theorem LsOK.at {G : CX} {la : Array Slot} {nL : Nat} {ls : LSt} (h : LsOK G la nL ls) {i : Nat} {v : AV} (hg : getL ls i = some v) : la[i]? = some (.val (cv G v)) := h.2.2.2 i v hg
theorem LsOK.st1 {G : CX} {la la' : Array Slot} {nL : Nat} {ls : LSt} {i : Nat} {v : AV} (h : LsOK G la nL ls) (hi : i < nL) (h' : lv_has la' nL ((i, cv G v) :: (lvl G ls).filter (fun q => !(q.1 == i) && !(q.1 + 1 == i && q.2.category == 2)))) : LsOK G la' nL (setA1 ls i v) := by
  refine ⟨h'.1, by rw [setA1, setO_len, cutL_len]; exact h.2.1, h'.2.1, fun j w hj => ?_⟩
  have hi2 : i < (cutL ls i).length := by rw [cutL_len, h.2.1]; exact hi
  rw [setA1, getL_setO _ _ _ _ hi2] at hj
  by_cases e : j = i
  · rw [if_pos e] at hj
    cases hj
    subst e
    exact h'.2.2 (j, cv G v) List.mem_cons_self
  · rw [if_neg e] at hj
    obtain ⟨h1, h2⟩ := getL_cutL _ _ _ _ hj
    refine h'.2.2 (j, cv G w) (List.mem_cons_of_mem _ (List.mem_filter.mpr ⟨mem_lvl h1, ?_⟩))
    have h3 : ¬ (j + 1 = i ∧ (cv G w).category = 2) := by rw [cv_cat]; exact h2
    have h4 : (!(j == i) && !(j + 1 == i && (cv G w).category == 2)) = true := by
      simp only [Bool.and_eq_true, Bool.not_eq_true', beq_eq_false_iff_ne, ne_eq, e, not_false_eq_true, true_and]
      rw [Bool.eq_false_iff]
      intro hh
      simp only [Bool.and_eq_true, beq_iff_eq] at hh
      exact h3 hh
    exact h4
theorem LsOK.st2 {G : CX} {la la' : Array Slot} {nL : Nat} {ls : LSt} {i : Nat} {v : AV} (h : LsOK G la nL ls) (hi : i + 1 < nL) (h' : lv_has la' nL ((i, cv G v) :: (lvl G ls).filter (fun q => !(q.1 == i) && (!(q.1 == i + 1) && !(q.1 + 1 == i && q.2.category == 2))))) : LsOK G la' nL (setA2 ls i v) := by
  refine ⟨h'.1, by rw [setA2, setO_len, setO_len, cutL_len]; exact h.2.1, h'.2.1, fun j w hj => ?_⟩
  have hi1 : i < (cutL ls i).length := by rw [cutL_len, h.2.1]; omega
  have hi2 : i + 1 < (setO (cutL ls i) i (some v)).length := by rw [setO_len, cutL_len, h.2.1]; exact hi
  rw [setA2, getL_setO _ _ _ _ hi2] at hj
  by_cases e1 : j = i + 1
  · rw [if_pos e1] at hj
    cases hj
  · rw [if_neg e1, getL_setO _ _ _ _ hi1] at hj
    by_cases e : j = i
    · rw [if_pos e] at hj
      cases hj
      subst e
      exact h'.2.2 (j, cv G v) List.mem_cons_self
    · rw [if_neg e] at hj
      obtain ⟨h1, h2⟩ := getL_cutL _ _ _ _ hj
      refine h'.2.2 (j, cv G w) (List.mem_cons_of_mem _ (List.mem_filter.mpr ⟨mem_lvl h1, ?_⟩))
      have h3 : ¬ (j + 1 = i ∧ (cv G w).category = 2) := by rw [cv_cat]; exact h2
      have h4 : (!(j == i) && (!(j == i + 1) && !(j + 1 == i && (cv G w).category == 2))) = true := by
        simp only [Bool.and_eq_true, Bool.not_eq_true', beq_eq_false_iff_ne, ne_eq, e, e1, not_false_eq_true, true_and]
        rw [Bool.eq_false_iff]
        intro hh
        simp only [Bool.and_eq_true, beq_iff_eq] at hh
        exact h3 hh
      exact h4
/-! counters out of the heap -/
theorem tot_split (H : Heap) (k : Nat) : tot H = ((H.toList.take k).map (fun c => c.slots.size)).sum + ((H.toList.drop k).map (fun c => c.slots.size)).sum := by
  unfold tot
  rw [← List.sum_append, ← List.map_append, List.take_append_drop]
theorem tot_eq {H H' : Heap} (h : ∀ a : Nat, (H'[a]?).map (fun c => c.slots.size) = (H[a]?).map (fun c => c.slots.size)) : tot H' = tot H := by
  unfold tot
  congr 1
  apply List.ext_getElem?
  intro i
  rw [List.getElem?_map, List.getElem?_map, Array.getElem?_toList, Array.getElem?_toList]
  exact h i
theorem tot_push (H : Heap) (c : Cell) : tot (H.push c) = tot H + c.slots.size := by
  unfold tot
  simp
theorem same_tot {s T : State} {locs : List Loc} {cells slots : Nat} (h : s.sameButNew T locs cells slots) : tot T.heap = tot s.heap + ((T.heap.toList.drop s.heap.size).map (fun c => c.slots.size)).sum := by
  rw [tot_split T.heap s.heap.size]
  congr 1
  unfold tot
  congr 1
  apply List.ext_getElem?
  intro i
  rw [List.getElem?_map, List.getElem?_map]
  by_cases hi : i < s.heap.size
  · obtain ⟨c', h1, -, h3, -⟩ := h.2.2.2.2.2 i s.heap[i] (by simp [hi])
    rw [List.getElem?_take_of_lt hi, Array.getElem?_toList, Array.getElem?_toList, h1]
    simp [hi, h3]
  · have e1 : (T.heap.toList.take s.heap.size)[i]? = none := by
      apply List.getElem?_eq_none
      rw [List.length_take]
      omega
    rw [e1, Array.getElem?_toList]
    simp [hi]
theorem W_tight {p : Program} {l : Launch} {e : Env} {R : Room} {s : State} {m : MethodId} {args : Array Value} {below : List Frame} {meth : Method} {c : Code} {H : Heap} {locs : List Loc} {cells slots k n : Nat} {Q : State → Prop} {g : JFrame}
    (h1 : H.size ≤ s.heap.size + k) (h2 : tot H ≤ tot s.heap + n) (kk : W p l e R s m args below meth c H locs k n Q g) : W p l e R s m args below meth c H locs cells slots Q g := by
  intro T hT X
  have hs : tot T.heap = tot s.heap + _ := same_tot (T := T.setVm s.vm) X.same
  refine kk T hT { X with same := ⟨X.same.1, X.same.2.1, ?_, X.same.2.2.2.1, ?_, X.same.2.2.2.2.2⟩ }
  · show T.heap.size ≤ _
    rw [hT]; exact h1
  · have h3 : tot H = tot s.heap + ((T.heap.toList.drop s.heap.size).map (fun c => c.slots.size)).sum := by rw [← hT]; exact hs
    show ((T.heap.toList.drop s.heap.size).map (·.slots.size)).sum ≤ n
    omega
/-- what a walk's heap is beside its start's -/
theorem W_grow {p : Program} {l : Launch} {e : Env} {R : Room} {s : State} {m : MethodId} {args : Array Value} {below : List Frame} {meth : Method} {c : Code} {H : Heap} {locs : List Loc} {cells slots : Nat} {Q : State → Prop} {g : JFrame}
    (kk : s.heap.size ≤ H.size → tot s.heap ≤ tot H → W p l e R s m args below meth c H locs cells slots Q g) : W p l e R s m args below meth c H locs cells slots Q g := by
  intro T hT X
  have hs : tot T.heap = tot s.heap + _ := same_tot (T := T.setVm s.vm) X.same
  have h2 : s.heap.size ≤ T.heap.size := X.same.2.1
  refine kk (hT ▸ h2) ?_ T hT X
  rw [← hT, hs]
  exact Nat.le_add_right _ _
