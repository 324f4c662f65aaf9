/-- the component's tape (8, field 2): signed bytes -/
def bS (x : Nat) : Int32 := (nI x).toInt8.toInt32
def XTb (tp : List Nat) (σ : AS) : Prop := tp.length ≤ 1600 ∧ ∀ (k x : Nat), tp[k]? = some x → gI σ 8 k = bS x ∧ x < 256
def XTp (tp : List Nat) (σ : AS) : Prop := XTb tp σ ∧ gI σ 0 2 = nI tp.length
section XE_
variable (G : CX) (g : GX) (l : Launch) (d : Nat) (σ : AS)
theorem x_end (tp : List Nat) (h : XTp tp σ) (x : Int32) : MC G g l (d+2) mX0_end [tX, iv x] σ (fun r t => if okEnd tp x = true then (r = some (iv (nI 1)) ∧ xS [2] [] σ t ∧ XTp (tp.take x.toNatClampNeg) t) else (r = some (iv (nI 0)) ∧ t = sI σ 15 0 (gI σ 15 0 + nI 1))) := by
  have hl := h.1.1
  refine MC1 tX0_end [6] rfl okX0_end rfl rfl rfl rfl (fun P hP => ?_)
  have no : okEnd tp x = false → P 6 [some tX, some (iv x)] [] σ := by
    intro e
    refine hP _ _ _ _ ?_
    refine mcall (x_refuses G g l d σ _ 0 rfl (by omega)) (fun r s1 h9 => ?_)
    obtain ⟨rfl, e9⟩ := h9
    refine And.intro (fun _ => ⟨nar0, ?_⟩) (fun q => absurd (show - nI 1 < nI 0 by decide) q)
    show if okEnd tp x = true then _ else _
    rw [if_neg (by rw [e]; decide)]
    exact ⟨rfl, e9⟩
  refine hP _ _ _ _ ?_
  refine And.intro (fun q => no ?_) (fun q => ?_)
  · have q : x < 0 := q
    rw [Int32.lt_iff_toInt_lt] at q
    have q : x.toInt < 0 := q
    exact decide_eq_false (fun e => by omega)
  · have q : ¬ x < 0 := q
    rw [Int32.lt_iff_toInt_lt] at q
    have q : ¬ x.toInt < 0 := q
    have tl : (nI tp.length).toInt = (tp.length : Int) := nI_toInt (by omega)
    refine And.intro (fun q1 => ?_) (fun q1 => no ?_)
    · have q1 : x ≤ gI σ 0 2 := q1
      rw [h.2, Int32.le_iff_toInt_le, tl] at q1
      have ok : okEnd tp x = true := decide_eq_true ⟨by omega, q1⟩
      refine ⟨nar1, ?_⟩
      show if okEnd tp x = true then _ else _
      rw [if_pos ok]
      obtain ⟨k, -, hk, rfl⟩ := btw_of ok (by omega)
      refine ⟨rfl, xS.rf.f rfl, ⟨⟨by rw [List.length_take]; omega, fun j y e => ?_⟩, ?_⟩⟩
      · rw [gI_sI, if_neg (by omega)]
        rw [List.getElem?_take] at e
        split at e
        · exact h.1.2 j y e
        · cases e
      · rw [gI_sI, if_pos ⟨rfl, rfl⟩, clN (by omega), List.length_take, Nat.min_eq_left hk]
    · have q1 : ¬ x ≤ gI σ 0 2 := q1
      rw [h.2, Int32.le_iff_toInt_le, tl] at q1
      exact decide_eq_false (fun e => q1 e.2)
end XE_
