/-! questions and streets, made -/
section DY_
variable (G : CX) (g : GX) (l : Launch) (d : Nat) (σ : AS)
theorem x8_init (a s v x y z w q : Nat) (hw : 1 ≤ w) (hw2 : w ≤ 1000) (hq : q ≤ 1000) (ka : kd true σ a = (0, 8)) (ha : 268 ≤ a) : MC G g l (d+2) mX8_init [rf a, rf s, iv (nI x), iv (nI y), iv (nI z), iv (nI w), iv (nI q), rf v] σ (fun r t => r = none ∧ t = sR (sI (sI (sI (sI (sI (sR σ a 0 (some (.inl s))) a 1 (nI x)) a 2 (nI y)) a 3 (nI z)) a 4 (nI w)) a 5 (nI (q % w))) a 6 (some (.inl v))) := by
  refine MCI tX8_init [2, 3, 6, 9, 12, 15, 19, 20] rfl okX8_init rfl rfl rfl rfl rfl (fun P hP => hP _ _ _ _ ?_)
  show P 2 [some (rf a), some (rf s), some (iv (nI x)), some (iv (nI y)), some (iv (nI z)), some (iv (nI w)), some (iv (nI q)), some (rf v)] [rf s, rf a] σ
  refine hP _ _ _ _ ?_
  refine mcall (x7_init G g l d σ a s 8 ka (by simp) ha) (fun r s0 h9 => ?_)
  obtain ⟨rfl, e9⟩ := h9
  have k0 : kd true s0 a = (0, 8) := by rw [e9]; exact ka
  show P 3 [some (rf a), some (rf s), some (iv (nI x)), some (iv (nI y)), some (iv (nI z)), some (iv (nI w)), some (iv (nI q)), some (rf v)] [] s0
  refine hP _ _ _ _ ?_
  refine grd (b := isOb (kd true s0 a) _) (by rw [k0]; rfl) ?_
  show P 6 [some (rf a), some (rf s), some (iv (nI x)), some (iv (nI y)), some (iv (nI z)), some (iv (nI w)), some (iv (nI q)), some (rf v)] [] (sI s0 a 1 (nI x))
  generalize h1 : sI s0 a 1 (nI x) = s1
  have k1 : kd true s1 a = (0, 8) := by rw [← h1]; exact k0
  refine hP _ _ _ _ ?_
  refine grd (b := isOb (kd true s1 a) _) (by rw [k1]; rfl) ?_
  show P 9 [some (rf a), some (rf s), some (iv (nI x)), some (iv (nI y)), some (iv (nI z)), some (iv (nI w)), some (iv (nI q)), some (rf v)] [] (sI s1 a 2 (nI y))
  generalize h2 : sI s1 a 2 (nI y) = s2
  have k2 : kd true s2 a = (0, 8) := by rw [← h2]; exact k1
  refine hP _ _ _ _ ?_
  refine grd (b := isOb (kd true s2 a) _) (by rw [k2]; rfl) ?_
  show P 12 [some (rf a), some (rf s), some (iv (nI x)), some (iv (nI y)), some (iv (nI z)), some (iv (nI w)), some (iv (nI q)), some (rf v)] [] (sI s2 a 3 (nI z))
  generalize h3 : sI s2 a 3 (nI z) = s3
  have k3 : kd true s3 a = (0, 8) := by rw [← h3]; exact k2
  refine hP _ _ _ _ ?_
  refine grd (b := isOb (kd true s3 a) _) (by rw [k3]; rfl) ?_
  show P 15 [some (rf a), some (rf s), some (iv (nI x)), some (iv (nI y)), some (iv (nI z)), some (iv (nI w)), some (iv (nI q)), some (rf v)] [] (sI s3 a 4 (nI w))
  generalize h4 : sI s3 a 4 (nI w) = s4
  have k4 : kd true s4 a = (0, 8) := by rw [← h4]; exact k3
  refine hP _ _ _ _ ?_
  refine And.intro (show ¬ nI w = nI 0 by rw [nI_eq (by omega) (by omega)]; omega) ?_
  have em : nI q - nI q / nI w * nI w = nI (q % w) := by
    rw [pk_div (by omega) (by omega), ix1, nI_s1 _ _ (Nat.div_mul_le_self q w)]
    congr 1
    · have := Nat.div_add_mod q w
      rw [Nat.mul_comm] at this
      omega
    · omega
  show P 19 [some (rf a), some (rf s), some (iv (nI x)), some (iv (nI y)), some (iv (nI z)), some (iv (nI w)), some (iv (nI q)), some (rf v)] [iv (nI q - nI q / nI w * nI w), rf a] s4
  rw [em]
  refine hP _ _ _ _ ?_
  refine grd (b := isOb (kd true s4 a) _) (by rw [k4]; rfl) ?_
  show P 20 [some (rf a), some (rf s), some (iv (nI x)), some (iv (nI y)), some (iv (nI z)), some (iv (nI w)), some (iv (nI q)), some (rf v)] [] (sI s4 a 5 (nI (q % w)))
  generalize h5 : sI s4 a 5 (nI (q % w)) = s5
  have k5 : kd true s5 a = (0, 8) := by rw [← h5]; exact k4
  refine hP _ _ _ _ ?_
  refine grd (b := isOb (kd true s5 a) _ && (!true || (fixR a 6).isNone)) (by rw [k5, fx_hi ha]; rfl) ?_
  exact ⟨rfl, by rw [← h5, ← h4, ← h3, ← h2, ← h1, e9]⟩
end DY_
