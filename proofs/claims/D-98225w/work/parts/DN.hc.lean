/-! the hash of a new string -/
def hashF (w : List Nat) : Int32 := w.foldl (fun h x => nI 31 * h + nI x) (nI 0)
theorem let_and {k : Nat} (h : k < 26) : nI (97 + k) &&& nI 255 = nI (97 + k) := by
  have : ∀ k : Fin 26, nI (97 + k.val) &&& nI 255 = nI (97 + k.val) := by decide
  exact this ⟨k, h⟩
section DN_
variable (G : CX) (g : GX) (l : Launch) (d : Nat) (σ : AS)
set_option maxHeartbeats 1000000 in
theorem j_signedHash (b : Nat) (w : List Nat) (hw : isLw w) (hm : w.length ≤ 2000) (kb : kd true σ b = (2, w.length)) (hb : ∀ (i x : Nat), w[i]? = some x → gI σ b i = nI x) :
    MC G g l (d+1) mJ10_signedHashCode [iv (nI 0), rf b, iv (nI 0), iv (nI w.length)] σ (fun r t => r = some (iv (hashF w)) ∧ t = σ) := by
  refine MC1 tJ10_signedHashCode [4, 6, 15, 19] rfl okJ10_signedHashCode rfl rfl rfl rfl (fun P hP => hP _ _ _ _ ?_)
  show P 4 [some (iv (nI 0)), some (rf b), some (iv (nI 0)), some (iv (nI w.length)), some (iv (nI 0 + nI w.length)), none] [] σ
  rw [nI_add, Nat.zero_add]
  refine hP _ _ _ _ ?_
  have key : ∀ (j i : Nat), i + j = w.length → P 6 [some (iv (hashF (w.take i))), some (rf b), some (iv (nI 0)), some (iv (nI w.length)), some (iv (nI w.length)), some (iv (nI i))] [] σ := by
    intro j
    induction j with
    | zero =>
      intro i hi
      refine hP _ _ _ _ (And.intro (fun _ => ⟨?_, rfl⟩) (fun q => absurd (nI_le (by omega) (by omega)) q))
      rw [List.take_of_length_le (by omega)]
    | succ j ih =>
      intro i hi
      obtain ⟨x, hx⟩ : ∃ x, w[i]? = some x := ⟨_, List.getElem?_eq_getElem (by omega)⟩
      have hxl := hw x (List.mem_of_getElem? hx)
      have ci : (nI i).toNatClampNeg = i := clN (by omega)
      refine hP _ _ _ _ (And.intro (fun q => absurd q (nI_ge (by omega) (by omega))) (fun _ => ?_))
      refine grd (b := Nat.beq (kd true σ b).1 1 || Nat.beq (kd true σ b).1 2) (by rw [kb]; rfl) ?_
      refine And.intro (show vp_in (nI i) (kd true σ b).2 by rw [kb]; exact vinN (by show i < w.length; omega) (by show w.length ≤ 1000000; omega)) ?_
      show P 15 [some (iv (hashF (w.take i))), some (rf b), some (iv (nI 0)), some (iv (nI w.length)), some (iv (nI w.length)), some (iv (nI i))] [iv (gI σ b (nI i).toNatClampNeg), iv (nI 31 * hashF (w.take i))] σ
      rw [ci, hb i x hx]
      have e : hashF (w.take (i+1)) = nI 31 * hashF (w.take i) + nI x := by
        rw [List.take_succ, hx]
        unfold hashF
        rw [List.foldl_append]
        rfl
      have hx8 : nI x &&& nI 255 = nI x := by
        obtain ⟨k, hk, rfl⟩ : ∃ k, k < 26 ∧ x = 97 + k := ⟨x - 97, by omega, by omega⟩
        exact let_and hk
      refine hP _ _ _ _ ?_
      show P 19 [some (iv (nI 31 * hashF (w.take i) + (nI x &&& nI 255))), some (rf b), some (iv (nI 0)), some (iv (nI w.length)), some (iv (nI w.length)), some (iv (nI i))] [] σ
      rw [hx8, ← e]
      refine hP _ _ _ _ ?_
      show P 6 [some (iv (hashF (w.take (i+1)))), some (rf b), some (iv (nI 0)), some (iv (nI w.length)), some (iv (nI w.length)), some (iv (nI i + nI 1))] [] σ
      rw [nI_add]
      exact ih (i+1) (by omega)
  exact key w.length 0 (by omega)
theorem j_vecHash (b : Nat) (w : List Nat) (hw : isLw w) (hm : w.length ≤ 2000) (kb : kd true σ b = (2, w.length)) (hb : ∀ (i x : Nat), w[i]? = some x → gI σ b i = nI x) :
    MC G g l (d+2) mJ10_vectorizedHashCode [rf b, iv (nI 0), iv (nI w.length), iv (nI 0), iv (nI 4)] σ (fun r t => r = some (iv (hashF w)) ∧ t = σ) := by
  refine MC1 tJ10_vectorizedHashCode [2, 4, 7] rfl okJ10_vectorizedHashCode rfl rfl rfl rfl (fun P hP => hP _ _ _ _ ?_)
  refine And.intro (fun _ => ?_) (fun q => absurd rfl q)
  show P 2 [some (rf b), some (iv (nI 0)), some (iv (nI w.length)), some (iv (nI 0)), some (iv (nI 4))] [] σ
  refine hP _ _ _ _ ?_
  show P 4 [some (rf b), some (iv (nI 0)), some (iv (nI w.length)), some (iv (nI 0)), some (iv (nI 4))] [rf b, iv (nI 0)] σ
  refine hP _ _ _ _ ?_
  refine grd (b := List.contains _ (kcode (kd true σ b))) (by rw [kb]; rfl) ?_
  show P 7 [some (rf b), some (iv (nI 0)), some (iv (nI w.length)), some (iv (nI 0)), some (iv (nI 4))] [iv (nI w.length), iv (nI 0), rf b, iv (nI 0)] σ
  refine hP _ _ _ _ ?_
  refine mcall (j_signedHash G g l d σ b w hw hm kb hb) (fun r s1 h9 => ?_)
  obtain ⟨rfl, e9⟩ := h9
  exact ⟨rfl, e9⟩
theorem j_hash9 (b : Nat) (w : List Nat) (hw : isLw w) (h1 : 1 ≤ w.length) (hm : w.length ≤ 2000) (kb : kd true σ b = (2, w.length)) (hb : ∀ (i x : Nat), w[i]? = some x → gI σ b i = nI x) :
    MC G g l (d+3) mJ9_hashCode [rf b] σ (fun r t => r = some (iv (hashF w)) ∧ t = σ) := by
  refine MC1 tJ9_hashCode [2, 8, 11, 14, 17] rfl okJ9_hashCode rfl rfl rfl rfl (fun P hP => hP _ _ _ _ ?_)
  refine grd (b := Nat.ble 1 (kd true σ b).1 && Nat.ble (kd true σ b).1 10) (by rw [kb]; rfl) ?_
  show P 2 [some (rf b)] [iv (nI (kd true σ b).2)] σ
  rw [kb]
  refine hP _ _ _ _ ?_
  refine And.intro (fun q => absurd (show nI w.length = nI 0 from q) (by rw [nI_eq (by omega) (by omega)]; omega)) (fun _ => And.intro (fun q => ?_) (fun q => ?_))
  · have q : nI w.length = nI 1 := q
    rw [nI_eq (by omega) (by omega)] at q
    obtain ⟨x, rfl⟩ : ∃ x, w = [x] := List.length_eq_one_iff.mp q
    have hxl := hw x (by simp)
    refine grd (b := Nat.beq (kd true σ b).1 1 || Nat.beq (kd true σ b).1 2) (by rw [kb]; rfl) ?_
    refine And.intro (show vp_in (nI 0) (kd true σ b).2 by rw [kb]; exact vin 0 1 rfl rfl) ?_
    show P 8 [some (rf b)] [iv (gI σ b 0)] σ
    rw [hb 0 x rfl]
    have hx8 : nI x &&& nI 255 = nI x := by
      obtain ⟨k, hk, rfl⟩ : ∃ k, k < 26 ∧ x = 97 + k := ⟨x - 97, by omega, by omega⟩
      exact let_and hk
    refine hP _ _ _ _ ⟨?_, rfl⟩
    show some (iv (nI x &&& nI 255)) = some (iv (nI 31 * nI 0 + nI x))
    rw [hx8, show nI 31 * nI 0 = (0 : Int32) from by decide, Int32.zero_add]
  · show P 11 [some (rf b)] [] σ
    refine hP _ _ _ _ ?_
    show P 14 [some (rf b)] [rf b, iv (nI 0), rf b] σ
    refine hP _ _ _ _ ?_
    refine grd (b := Nat.ble 1 (kd true σ b).1 && Nat.ble (kd true σ b).1 10) (by rw [kb]; rfl) ?_
    show P 17 [some (rf b)] [iv (nI 4), iv (nI 0), iv (nI (kd true σ b).2), iv (nI 0), rf b] σ
    rw [kb]
    refine hP _ _ _ _ ?_
    refine mcall (j_vecHash G g l d σ b w hw hm kb hb) (fun r s1 h9 => ?_)
    obtain ⟨rfl, e9⟩ := h9
    exact ⟨rfl, e9⟩
set_option maxHeartbeats 1000000 in
theorem j_hash (a : Nat) (w : List Nat) (hw : isLw w) (h1 : 1 ≤ w.length) (hm : w.length ≤ 2000) (h : STn σ a w) :
    MC G g l (d+4) mJ6_hashCode [rf a] σ (fun r t => r = some (iv (hashF w)) ∧ fS (fun c => c = a) σ t ∧ zn t = zn σ ∧ zu t = zu σ ∧ STR (fun _ => True) t a w) := by
  obtain ⟨g2, g3, hS⟩ := h
  have hS0 := hS
  obtain ⟨-, k1, g1, b, -, r0, kb, hb⟩ := hS
  refine MC1 tJ6_hashCode [2, 3, 7, 9, 13, 19] rfl okJ6_hashCode rfl rfl rfl rfl (fun P hP => hP _ _ _ _ ?_)
  refine grd (b := isOb (kd true σ a) _) (by rw [k1]; rfl) ?_
  show P 2 [some (rf a), none] [iv (gI σ a 2)] σ
  rw [g2]
  refine hP _ _ _ _ ?_
  show P 3 [some (rf a), some (iv (nI 0))] [] σ
  refine hP _ _ _ _ (And.intro (fun q => absurd rfl q) (fun _ => ?_))
  refine grd (b := isOb (kd true σ a) _) (by rw [k1]; rfl) ?_
  show P 7 [some (rf a), some (iv (nI 0))] [iv (gI σ a 3)] σ
  rw [g3]
  refine hP _ _ _ _ (And.intro (fun q => absurd rfl q) (fun _ => ?_))
  show P 9 [some (rf a), some (iv (nI 0))] [rf a] σ
  refine hP _ _ _ _ (sv0 rfl rfl k1 rfl rfl (mcall (j_isLatin6 G g l (d+2) σ hS0) (fun r s1 h9 => ?_)))
  obtain ⟨rfl, e9⟩ := h9
  subst e9
  refine And.intro (fun q => absurd q (by decide)) (fun _ => ?_)
  refine grd (b := isOb (kd true s1 a) _) (by rw [k1]; rfl) ?_
  show P 13 [some (rf a), some (iv (nI 0))] [rw_ (gR true s1 a 0)] s1
  rw [r0]
  refine hP _ _ _ _ ?_
  refine mcall (j_hash9 G g l d s1 b w hw h1 hm kb hb) (fun r s2 h9 => ?_)
  obtain ⟨rfl, e9⟩ := h9
  subst e9
  show P 19 [some (rf a), some (iv (hashF w))] [] s2
  have hab : b ≠ a := fun e => by rw [e, k1] at kb; exact absurd (Prod.mk.inj kb).1 (by decide)
  refine hP _ _ _ _ (And.intro (fun q => ?_) (fun q => ?_))
  · refine grd (b := isOb (kd true s2 a) _) (by rw [k1]; rfl) ⟨rfl, fS.rf.i (Or.inl rfl), rfl, rfl, trivial, k1, ?_, b, trivial, r0, kb, fun i x hx => ?_⟩
    · rw [gI_sI, if_neg (by omega)]; exact g1
    · rw [gI_sI, if_neg (by omega)]; exact hb i x hx
  · refine grd (b := isOb (kd true s2 a) _ && Nat.blt 1 5) (by rw [k1]; rfl) (And.intro nar1 ⟨rfl, fS.rf.i (Or.inl rfl), rfl, rfl, trivial, k1, ?_, b, trivial, r0, kb, fun i x hx => ?_⟩)
    · rw [gI_sI, if_neg (by omega)]; exact g1
    · rw [gI_sI, if_neg (by omega)]; exact hb i x hx
end DN_
