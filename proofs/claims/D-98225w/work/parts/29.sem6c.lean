/-! switches; values of old objects -/
theorem ofInt_toInt {z : Int} (h1 : -2147483648 ≤ z) (h2 : z < 2147483648) : (Int32.ofInt z).toInt = z := Int32.toInt_ofInt_of_le h1 h2
theorem ofInt_nI (m : Nat) : Int32.ofInt (m : Int) = nI m := rfl
theorem ofInt_neg (m : Nat) : Int32.ofInt (- (m : Int)) = - nI m := by rw [← ofInt_nI, Int32.ofInt_neg]
theorem swT_cons {x : Int32} {K : Nat → Prop} {q : Int × Nat} {t : List (Int × Nat)} {d : Nat} (h : swT x K (q :: t) d) : (x = Int32.ofInt q.1 → K q.2) ∧ (¬ x = Int32.ofInt q.1 → swT x K t d) := by
  obtain ⟨z, u⟩ := q
  cases z with
  | ofNat n => exact h
  | negSucc n =>
    have e : Int32.ofInt (Int.negSucc n) = - nI (n+1) := by rw [← ofInt_neg]; rfl
    show (x = Int32.ofInt (Int.negSucc n) → K u) ∧ _
    rw [e]
    exact h
theorem cst_i {n : Int} {aux : List Nat} (h : cstOK n aux = true) : (∀ m, aux = [0, m] → Int32.ofInt n = nI m) ∧ (∀ m, aux = [1, m] → Int32.ofInt n = - nI m) := by
  constructor
  · intro m e
    subst e
    simp only [cstOK, decide_eq_true_eq] at h
    rw [h, ofInt_nI]
  · intro m e
    subst e
    simp only [cstOK, decide_eq_true_eq] at h
    rw [h, ofInt_neg]
theorem swT_in {x : Int32} {K : Nat → Prop} : ∀ (ts : List Nat) (lo : Int) (d : Nat), swT x K (zipT lo ts) d → ∀ (j t : Nat), ts[j]? = some t → x = Int32.ofInt (lo + j) → (∀ j' : Nat, j' < j → ¬ x = Int32.ofInt (lo + j')) → K t
  | [], _, _, _, _, _, h, _, _ => by simp at h
  | t0 :: ts, lo, d, h, 0, t, hj, hx, _ => by
    simp at hj
    subst hj
    exact (swT_cons h).1 (by simpa using hx)
  | t0 :: ts, lo, d, h, j+1, t, hj, hx, hn => by
    have h0 : ¬ x = Int32.ofInt lo := by
      have := hn 0 (by omega)
      simpa using this
    refine swT_in ts (lo + 1) d ((swT_cons h).2 h0) j t (by simpa using hj) (by rw [hx]; congr 1; omega) (fun j' hj' => ?_)
    have := hn (j' + 1) (by omega)
    intro e
    exact this (by rw [e]; congr 1; omega)
theorem swT_out {x : Int32} {K : Nat → Prop} : ∀ (ts : List Nat) (lo : Int) (d : Nat), swT x K (zipT lo ts) d → (∀ j : Nat, j < ts.length → ¬ x = Int32.ofInt (lo + j)) → K d
  | [], _, _, h, _ => h
  | t0 :: ts, lo, d, h, hn => by
    have h0 : ¬ x = Int32.ofInt lo := by
      have := hn 0 (by simp)
      simpa using this
    refine swT_out ts (lo + 1) d ((swT_cons h).2 h0) (fun j hj => ?_)
    have := hn (j + 1) (by simpa using hj)
    intro e
    exact this (by rw [e]; congr 1; omega)
theorem tgt_spec {tab : List Ent} {pc : Nat} {off : Int} {t : Nat} (h : tgtOK tab pc off t = true) : (pc : Int) + off = (pcAt tab t : Int) := by simpa [tgtOK] using h
theorem allT_at {tab : List Ent} {pc : Nat} : ∀ (os : List Int) (ts : List Nat), allT tab pc os ts = true → os.length = ts.length ∧ ∀ (j t : Nat), ts[j]? = some t → ∃ o, os[j]? = some o ∧ (pc : Int) + o = (pcAt tab t : Int)
  | [], [], _ => ⟨rfl, fun j t h => by simp at h⟩
  | [], t :: ts, h => by simp [allT] at h
  | o :: os, [], h => by simp [allT] at h
  | o :: os, t :: ts, h => by
    simp only [allT, Bool.and_eq_true] at h
    obtain ⟨h1, h2⟩ := allT_at os ts h.2
    refine ⟨by simp [h1], fun j t9 hj => ?_⟩
    cases j with
    | zero => simp at hj; subst hj; exact ⟨o, rfl, tgt_spec h.1⟩
    | succ j => exact h2 j t9 (by simpa using hj)
theorem swL {tab : List Ent} {pc : Nat} {x : Int32} {K : Nat → Prop} {dflt : Int} {d : Nat} (hd : (pc : Int) + dflt = (pcAt tab d : Int)) : ∀ (ps : List (Int × Int)) (ts : List Nat), allT tab pc (ps.map (fun q => q.2)) ts = true → ps.all (fun q => decide (-2147483648 ≤ q.1) && decide (q.1 < 2147483648)) = true → swT x K (zipL ps ts) d →
    ∃ (off : Int) (t : Nat), Op.lookupswitch.offset ps dflt x.toInt = off ∧ (pc : Int) + off = (pcAt tab t : Int) ∧ K t
  | [], [], _, _, h => ⟨dflt, d, rfl, hd, h⟩
  | [], t :: ts, h, _, _ => by simp [allT] at h
  | q :: ps, [], h, _, _ => by simp [allT] at h
  | q :: ps, t :: ts, ha, hr, h => by
    simp only [List.map_cons, allT, Bool.and_eq_true] at ha
    simp only [List.all_cons, Bool.and_eq_true, decide_eq_true_eq] at hr
    obtain ⟨a, o⟩ := q
    have hk : (Int32.ofInt a).toInt = a := ofInt_toInt hr.1.1 hr.1.2
    by_cases e : x = Int32.ofInt a
    · refine ⟨o, t, ?_, tgt_spec ha.1, (swT_cons h).1 e⟩
      rw [Op.lookupswitch.offset_cons, if_pos (by rw [e, hk])]
    · obtain ⟨off, t9, h1, h2, h3⟩ := swL hd ps ts ha.2 hr.2 ((swT_cons h).2 e)
      exact ⟨off, t9, by rw [lv_osw e hk]; exact h1, h2, h3⟩
theorem FLg.le7 {own : String} {idx cn f t : Nat} (hf : FLg own idx cn f t) : t ≤ 7 := by
  obtain ⟨C, T, N, ty, -, hk, ht, -⟩ := hf
  rw [← ht]
  cases ty f <;> simp [tcd]
theorem ldf_old {G : CX} {g : GM} {σ : AS} {t f j : Nat} (h : t ≤ 7) : cv G (ldf g σ t f (.inr j)) = oval G g j f t := by
  match t, h with
  | 0, _ => rfl
  | 1, _ => rfl
  | 2, _ => rfl
  | 3, _ => rfl
  | 4, _ => rfl
  | 5, _ => rfl
  | 6, _ => rfl
  | 7, _ => rfl
theorem elv7 {G : CX} {ph : Bool} {σ : AS} {a t j : Nat} (h : 7 ≤ t) : elv G ph σ a t j = rv G (gR ph σ a j) := by
  obtain ⟨t, rfl⟩ : ∃ t', t = t' + 7 := ⟨t - 7, by omega⟩
  rfl
theorem oval7 {G : CX} {g : GM} {t j k : Nat} (h : 7 ≤ t) : oval G g j k t = rv G (oR j k) := by
  obtain ⟨t, rfl⟩ : ∃ t', t = t' + 7 := ⟨t - 7, by omega⟩
  rfl
theorem ty7 {t : Nat} (h : 7 ≤ t) : (tyOf t).isReference = true := by
  obtain ⟨t, rfl⟩ : ∃ t', t = t' + 7 := ⟨t - 7, by omega⟩
  match t with
  | 0 => rfl
  | 1 => rfl
  | 2 => rfl
  | _+3 => rfl
theorem bi8 {n : Int} (h1 : -128 ≤ n) (h2 : n ≤ 127) : (Int8.ofInt n).toInt32 = Int32.ofInt n := by
  apply Int32.toInt_inj.mp
  rw [Int8.toInt_toInt32, Int8.toInt_ofInt_of_le (by omega) (by omega), Int32.toInt_ofInt_of_le (by omega) (by omega)]
theorem si16 {n : Int} (h1 : -32768 ≤ n) (h2 : n ≤ 32767) : (Int16.ofInt n).toInt32 = Int32.ofInt n := by
  apply Int32.toInt_inj.mp
  rw [Int16.toInt_toInt32, Int16.toInt_ofInt_of_le (by omega) (by omega), Int32.toInt_ofInt_of_le (by omega) (by omega)]
theorem ldf_new {G : CX} {g : GM} {σ : AS} {t f a : Nat} : cv G (ldf g σ t f (.inl a)) = fval G g.1 σ a f t := by
  by_cases h6 : t = 6
  · subst h6; rfl
  · by_cases h7 : t = 7
    · subst h7; rfl
    · unfold ldf fval
      split
      · exact absurd rfl h6
      · exact absurd rfl h7
      · show Value.int (gI σ a f) = _
        split
        · exact absurd rfl h6
        · exact absurd rfl h7
        · rfl
