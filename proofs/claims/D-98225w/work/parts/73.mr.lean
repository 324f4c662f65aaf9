section MR
variable (G : CX) (g : GX) (l : Launch) (d : Nat) (σ : AS)
/-- byte j of a word (0: the highest) -/
def byt (w : Int32) (j : Nat) : Nat := (w >>> (nI (8 * (3 - j)) &&& 31)).toBitVec.toNat % 2 ^ 8
theorem byt_and (w : Int32) (j : Nat) : (w >>> (nI (8 * (3 - j)) &&& 31)) &&& nI 255 = nI (byt w j) := pk_and _ 8 rfl
theorem byt_lt (w : Int32) (j : Nat) : byt w j < 256 := Nat.mod_lt _ (by decide)
def w5 (a b c d e : Int32) (k : Nat) : Int32 := if k < 4 then a else if k < 8 then b else if k < 12 then c else if k < 16 then d else e
def feed5 (a b c d e : Int32) : List Nat := (List.range 20).map (fun k => byt (w5 a b c d e k) (k % 4))
/-- the tape's bytes; with their number -/
def MTb (tp : List Nat) (σ : AS) : Prop := tp.length ≤ 1600 ∧ ∀ (k x : Nat), tp[k]? = some x → gI σ 201 k = nI x ∧ x < 256
def MTp (tp : List Nat) (σ : AS) : Prop := MTb tp σ ∧ gI σ 200 1 = nI tp.length
theorem MTb.keep {tp : List Nat} {σ t : AS} {fs ids : List Nat} (h : MTb tp σ) (hS : mS fs ids σ t) (h1 : ids.contains 201 = false) : MTb tp t := ⟨h.1, fun k x e => by rw [hS.ia 201 h1 rfl]; exact h.2 k x e⟩
theorem MTp.keep {tp : List Nat} {σ t : AS} {fs ids : List Nat} (h : MTp tp σ) (hS : mS fs ids σ t) (h1 : ids.contains 201 = false) (h2 : (ids.contains 200 || fs.contains 1) = false) : MTp tp t := by
  rw [Bool.or_eq_false_iff] at h2
  exact ⟨h.1.keep hS h1, by rw [hS.i 200 1 h2.1 (by rw [h2.2]; rfl)]; exact h.2⟩
theorem MTb.at {tp : List Nat} {σ : AS} (h : MTb tp σ) {k : Nat} (hk : k < tp.length) : gI σ 201 k = nI tp[k]! ∧ tp[k]! < 256 := h.2 k _ (by rw [List.getElem?_eq_getElem hk, getElem!_pos tp k hk])
theorem MTp.push {tp : List Nat} {σ : AS} (h : MTp tp σ) (hl : tp.length < 1600) (b : Nat) (hb : b < 256) : MTp (tp ++ [b]) (sI (sI σ 201 tp.length (nI b)) 200 1 (nI (tp.length + 1))) := by
  refine ⟨⟨by rw [List.length_append, List.length_singleton]; omega, fun k x e => ?_⟩, by rw [List.length_append]; rfl⟩
  rw [gI_sI, if_neg (by omega), gI_sI]
  rcases Nat.lt_trichotomy k tp.length with q | q | q
  · rw [List.getElem?_append_left q] at e
    rw [if_neg (by omega)]
    exact h.1.2 k x e
  · subst q
    rw [List.getElem?_append_right (Nat.le_refl _), Nat.sub_self] at e
    have e : some b = some x := e
    cases e
    exact ⟨by rw [if_pos ⟨rfl, rfl⟩], hb⟩
  · rw [List.getElem?_eq_none (by rw [List.length_append, List.length_singleton]; omega)] at e
    cases e
set_option maxHeartbeats 1000000 in
theorem c_feed (tp : List Nat) (h : MTp tp σ) (a b c e f : Int32) : MC G g l (d+1) mX6_feed [tM, iv a, iv b, iv c, iv e, iv f] σ (fun r t => if tp.length + 20 ≤ 1600 then (r = some (iv (nI (tp.length + 20))) ∧ mS [1] [201] σ t ∧ MTp (tp ++ feed5 a b c e f) t) else (r = some (iv (- nI 1)) ∧ mS [] [202] σ t ∧ RefInc 0 σ t)) := by
  have hl := h.1.1
  refine MC1 tX6_feed [18, 42] rfl okX6_feed rfl rfl rfl rfl (fun P hP => hP _ _ _ _ ?_)
  refine And.intro (fun q => ?_) (fun q => ?_)
  · have q : gI σ 200 1 + nI 20 ≤ nI 1600 := q
    rw [h.2, nI_add, nI_leI (by omega) (by omega)] at q
    have fl : (feed5 a b c e f).length = 20 := by unfold feed5; rw [List.length_map, List.length_range]
    have key : ∀ (m k : Nat) (x7 : Option AV) (τ : AS), k + m = 20 → mS [1] [201] σ τ → MTp (tp ++ (feed5 a b c e f).take k) τ → P 18 [some tM, some (iv a), some (iv b), some (iv c), some (iv e), some (iv f), some (iv (nI k)), x7] [] τ := by
      intro m
      induction m with
      | zero =>
        intro k x7 τ hm hS hM
        have hk : k = 20 := by omega
        subst hk
        refine hP _ _ _ _ (And.intro (fun _ => ?_) (fun q => absurd (Int32.le_refl _) q))
        show if tp.length + 20 ≤ 1600 then _ else _
        rw [if_pos q]
        rw [List.take_of_length_le (by omega)] at hM
        refine ⟨?_, hS, hM⟩
        have := hM.2
        rw [List.length_append, fl] at this
        exact congrArg _ (congrArg _ this)
      | succ m ih =>
        intro k x7 τ hm hS hM
        have hlen : (tp ++ (feed5 a b c e f).take k).length = tp.length + k := by rw [List.length_append, List.length_take, fl]; omega
        have go : ∀ w, w = w5 a b c e f k → P 42 [some tM, some (iv a), some (iv b), some (iv c), some (iv e), some (iv f), some (iv (nI k)), x7] [iv w] τ := by
          intro w hw
          have ht := hM.2
          rw [hlen] at ht
          have e1 : w >>> ((nI 8 * (nI 3 - (nI k - nI k / nI 4 * nI 4))) &&& 31) &&& nI 255 = nI (byt w (k % 4)) := by
            rw [pk_rem (by omega) (by omega) (by omega), nI_s1 _ _ (by omega), pk_mul]
            exact byt_and _ _
          refine hP _ _ _ _ (And.intro (by decide) (And.intro ?_ ?_))
          · show vp_in (gI τ 200 1) 1600
            rw [ht]
            exact vinN (by omega) (by omega)
          · show P 18 [some tM, some (iv a), some (iv b), some (iv c), some (iv e), some (iv f), some (iv (nI k + nI 1)), some (iv w)] [] (sI (sI τ 201 (gI τ 200 1).toNatClampNeg (w >>> ((nI 8 * (nI 3 - (nI k - nI k / nI 4 * nI 4))) &&& 31) &&& nI 255)) 200 1 (gI τ 200 1 + nI 1))
            rw [nI_add, e1, ht, clN (by omega), nI_add]
            refine ih (k+1) _ _ (by omega) ((hS.a rfl).f rfl) ?_
            have := hM.push (by omega) (byt w (k % 4)) (byt_lt _ _)
            rw [hlen] at this
            have e2 : (feed5 a b c e f).take (k+1) = (feed5 a b c e f).take k ++ [byt w (k % 4)] := by
              rw [List.take_succ, hw]
              congr 1
              unfold feed5
              rw [List.getElem?_map, List.getElem?_range (by omega)]
              rfl
            rw [e2, ← List.append_assoc]
            exact this
        refine hP _ _ _ _ (And.intro (fun q => absurd q (nI_ge (by omega) (by omega))) (fun _ => ?_))
        refine And.intro (fun q => ?_) (fun q => ?_)
        · have q1 : 4 ≤ k := (nI_leI (by omega) (by omega)).mp q
          refine And.intro (fun q => ?_) (fun q => ?_)
          · have q2 : 8 ≤ k := (nI_leI (by omega) (by omega)).mp q
            refine And.intro (fun q => ?_) (fun q => ?_)
            · have q3 : 12 ≤ k := (nI_leI (by omega) (by omega)).mp q
              refine And.intro (fun q => ?_) (fun q => ?_)
              · have q4 : 16 ≤ k := (nI_leI (by omega) (by omega)).mp q
                exact go _ (by unfold w5; rw [if_neg (by omega), if_neg (by omega), if_neg (by omega), if_neg (by omega)])
              · have q4 : ¬ 16 ≤ k := fun q5 => q ((nI_leI (by omega) (by omega)).mpr q5)
                exact go _ (by unfold w5; rw [if_neg (by omega), if_neg (by omega), if_neg (by omega), if_pos (by omega)])
            · have q4 : ¬ 12 ≤ k := fun q5 => q ((nI_leI (by omega) (by omega)).mpr q5)
              exact go _ (by unfold w5; rw [if_neg (by omega), if_neg (by omega), if_pos (by omega)])
          · have q4 : ¬ 8 ≤ k := fun q5 => q ((nI_leI (by omega) (by omega)).mpr q5)
            exact go _ (by unfold w5; rw [if_neg (by omega), if_pos (by omega)])
        · have q4 : ¬ 4 ≤ k := fun q5 => q ((nI_leI (by omega) (by omega)).mpr q5)
          exact go _ (by unfold w5; rw [if_pos (by omega)])
    exact key 20 0 none σ rfl mS.rf (by rw [List.take_zero, List.append_nil]; exact h)
  · have q : ¬ gI σ 200 1 + nI 20 ≤ nI 1600 := q
    rw [h.2, nI_add, nI_leI (by omega) (by omega)] at q
    refine And.intro (vin 0 6 rfl rfl) (And.intro (vin 0 6 rfl rfl) ?_)
    show if tp.length + 20 ≤ 1600 then _ else _
    rw [if_neg q]
    exact ⟨rfl, mS.rf.a rfl, RefInc.mk 0 σ⟩
def okEnd (tp : List Nat) (x : Int32) : Bool := btw x 0 tp.length
set_option maxHeartbeats 1000000 in
theorem c_end (tp : List Nat) (h : MTp tp σ) (x : Int32) : MC G g l (d+1) mX6_end [tM, iv x] σ (fun r t => if okEnd tp x = true then (r = some (iv (nI 1)) ∧ mS [1] [] σ t ∧ MTp (tp.take x.toNatClampNeg) t) else (r = some (iv (nI 0)) ∧ mS [] [202] σ t ∧ RefInc 0 σ t)) := by
  have hl := h.1.1
  refine MC1 tX6_end [6] rfl okX6_end rfl rfl rfl rfl (fun P hP => ?_)
  have no : okEnd tp x = false → P 6 [some tM, some (iv x)] [] σ := by
    intro e
    refine hP _ _ _ _ (And.intro (vin 0 6 rfl rfl) (And.intro (vin 0 6 rfl rfl) ⟨nar0, ?_⟩))
    show if okEnd tp x = true then _ else _
    rw [if_neg (by rw [e]; decide)]
    exact ⟨rfl, mS.rf.a rfl, RefInc.mk 0 σ⟩
  refine hP _ _ _ _ ?_
  refine And.intro (fun q => no ?_) (fun q => ?_)
  · have q : x < 0 := q
    rw [Int32.lt_iff_toInt_lt] at q
    have q : x.toInt < 0 := q
    exact decide_eq_false (fun e => by omega)
  · have q : ¬ x < 0 := q
    rw [Int32.lt_iff_toInt_lt] at q
    have q : ¬ x.toInt < 0 := q
    have tl : (nI tp.length).toInt = (tp.length : Int) := nI_toInt (by omega)
    refine And.intro (fun q1 => ?_) (fun q1 => no ?_)
    · have q1 : x ≤ gI σ 200 1 := q1
      rw [h.2, Int32.le_iff_toInt_le, tl] at q1
      have ok : okEnd tp x = true := decide_eq_true ⟨by omega, q1⟩
      refine ⟨nar1, ?_⟩
      show if okEnd tp x = true then _ else _
      rw [if_pos ok]
      obtain ⟨k, -, hk, rfl⟩ := btw_of ok (by omega)
      refine ⟨rfl, mS.rf.f rfl, ⟨⟨by rw [List.length_take]; omega, fun j y e => ?_⟩, ?_⟩⟩
      · rw [gI_sI, if_neg (by omega)]
        rw [List.getElem?_take] at e
        split at e
        · exact h.1.2 j y e
        · cases e
      · rw [gI_sI, if_pos ⟨rfl, rfl⟩, clN (by omega), List.length_take, Nat.min_eq_left hk]
    · have q1 : ¬ x ≤ gI σ 200 1 := q1
      rw [h.2, Int32.le_iff_toInt_le, tl] at q1
      exact decide_eq_false (fun e => q1 e.2)
theorem c_fault (k p : Int32) (h1 : gI σ 200 7 = k) (h2 : gI σ 200 8 = p) (x : Int32) : MC G g l (d+1) mX6_fault [tM, iv x] σ (fun r t => r = some (iv (if x = nI 0 then k else if x = nI 1 then p else - nI 1)) ∧ t = σ) := by
  refine MC0 tX6_fault rfl okX6_fault rfl rfl rfl rfl (fun P => ?_)
  refine And.intro (fun q => And.intro (fun q1 => ?_) (fun q1 => ?_)) (fun q => ?_)
  · exact ⟨by rw [if_neg q, if_neg q1], rfl⟩
  · have q1 : x = nI 1 := q1
    exact ⟨by rw [if_neg q, if_pos q1, ← h2], rfl⟩
  · have q1 : x = nI 0 := q
    exact ⟨by rw [if_pos q1, ← h1], rfl⟩
theorem c_status (x : Int32) : MC G g l (d+2) mX6_status [tM, iv x] σ (fun r t => r = some (iv (if btw x 0 5 = true then gI σ 202 x.toNatClampNeg else - nI 1)) ∧ t = σ) := by
  refine MC0 tX6_status rfl okX6_status rfl rfl rfl rfl (fun P => ?_)
  refine mcall (c_isIn G g l d σ _ _ _) (fun r s' h9 => ?_)
  obtain ⟨rfl, rfl⟩ := h9
  rw [btw_long (a := 0) (b := 5) (by decide) (by decide)]
  cases hb : btw x 0 5 with
  | false => exact And.intro (fun _ => ⟨rfl, rfl⟩) (fun q => absurd rfl q)
  | true =>
    refine And.intro (fun q => absurd q (by decide)) (fun _ => ?_)
    obtain ⟨k, -, hk, rfl⟩ := btw_of hb (by decide)
    exact And.intro (show vp_in (nI k) 6 from vinN (by omega) (by omega)) ⟨rfl, rfl⟩
end MR
