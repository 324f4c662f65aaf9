/-! constructors of the named, of tests -/
section DW_
variable (G : CX) (g : GX) (l : Launch) (d : Nat) (σ : AS)
theorem x17_init (a : Nat) : MC G g l (d+1) mX17_init [rf a] σ (fun r t => r = none ∧ t = σ) :=
  MC0 tX17_init rfl okX17_init rfl rfl rfl rfl (fun P => ⟨rfl, rfl⟩)
theorem x7_init (a s cl : Nat) (ka : kd true σ a = (0, cl)) (hcl : cl = 7 ∨ cl = 8 ∨ cl = 14) (ha : 268 ≤ a) : MC G g l (d+1) mX7_init [rf a, rf s] σ (fun r t => r = none ∧ t = sR σ a 0 (some (.inl s))) := by
  refine MCI tX7_init [2] rfl okX7_init rfl rfl rfl rfl rfl (fun P hP => hP _ _ _ _ ?_)
  show P 2 [some (rf a), some (rf s)] [] σ
  refine hP _ _ _ _ ?_
  refine grd (b := isOb (kd true σ a) _ && (!true || (fixR a 0).isNone)) (by rcases hcl with rfl | rfl | rfl <;> (rw [ka, fx_hi ha]; rfl)) ?_
  exact ⟨rfl, rfl⟩
theorem x19_init (a v : Nat) (ka : kd true σ a = (0, 17)) (ha : 268 ≤ a) : MC G g l (d+2) mX19_init [rf a, rf v] σ (fun r t => r = none ∧ t = sR σ a 0 (some (.inl v))) := by
  refine MCI tX19_init [2] rfl okX19_init rfl rfl rfl rfl rfl (fun P hP => hP _ _ _ _ ?_)
  refine mcall (x17_init G g l d σ a) (fun r s0 h9 => ?_)
  obtain ⟨rfl, e9⟩ := h9
  subst e9
  show P 2 [some (rf a), some (rf v)] [] s0
  refine hP _ _ _ _ ?_
  refine grd (b := isOb (kd true s0 a) _ && (!true || (fixR a 0).isNone)) (by rw [ka, fx_hi ha]; rfl) ?_
  exact ⟨rfl, rfl⟩
theorem x20_init (a : Nat) : MC G g l (d+2) mX20_init [rf a] σ (fun r t => r = none ∧ t = σ) := by
  refine MCI tX20_init [2] rfl okX20_init rfl rfl rfl rfl rfl (fun P hP => hP _ _ _ _ ?_)
  refine mcall (x17_init G g l d σ a) (fun r s0 h9 => ?_)
  obtain ⟨rfl, e9⟩ := h9
  show P 2 [some (rf a)] [] s0
  exact hP _ _ _ _ ⟨rfl, e9⟩
theorem x15_init (a s : Nat) (x y z : Int32) (ka : kd true σ a = (0, 14)) (ha : 268 ≤ a) : MC G g l (d+2) mX15_init [rf a, rf s, iv x, iv y, iv z] σ (fun r t => r = none ∧ t = sI (sI (sI (sR σ a 0 (some (.inl s))) a 1 x) a 2 y) a 3 z) := by
  refine MCI tX15_init [2, 3, 6, 9] rfl okX15_init rfl rfl rfl rfl rfl (fun P hP => hP _ _ _ _ ?_)
  show P 2 [some (rf a), some (rf s), some (iv x), some (iv y), some (iv z)] [rf s, rf a] σ
  refine hP _ _ _ _ ?_
  refine mcall (x7_init G g l d σ a s 14 ka (by simp) ha) (fun r s0 h9 => ?_)
  obtain ⟨rfl, e9⟩ := h9
  have k0 : kd true s0 a = (0, 14) := by rw [e9]; exact ka
  show P 3 [some (rf a), some (rf s), some (iv x), some (iv y), some (iv z)] [] s0
  refine hP _ _ _ _ ?_
  refine grd (b := isOb (kd true s0 a) _) (by rw [k0]; rfl) ?_
  show P 6 [some (rf a), some (rf s), some (iv x), some (iv y), some (iv z)] [] (sI s0 a 1 x)
  refine hP _ _ _ _ ?_
  refine grd (b := isOb (kd true (sI s0 a 1 x) a) _) (by rw [show kd true (sI s0 a 1 x) a = (0, 14) from k0]; rfl) ?_
  show P 9 [some (rf a), some (rf s), some (iv x), some (iv y), some (iv z)] [] (sI (sI s0 a 1 x) a 2 y)
  refine hP _ _ _ _ ?_
  refine grd (b := isOb (kd true (sI (sI s0 a 1 x) a 2 y) a) _) (by rw [show kd true (sI (sI s0 a 1 x) a 2 y) a = (0, 14) from k0]; rfl) ?_
  exact ⟨rfl, by rw [e9]⟩
theorem x21_init (a v1 v2 : Nat) (x : Int32) (ka : kd true σ a = (0, 19)) (ha : 268 ≤ a) : MC G g l (d+2) mX21_init [rf a, rf v1, iv x, rf v2] σ (fun r t => r = none ∧ t = sR (sI (sR σ a 0 (some (.inl v1))) a 2 x) a 1 (some (.inl v2))) := by
  refine MCI tX21_init [2, 5, 8] rfl okX21_init rfl rfl rfl rfl rfl (fun P hP => hP _ _ _ _ ?_)
  refine mcall (x17_init G g l d σ a) (fun r s0 h9 => ?_)
  obtain ⟨rfl, e9⟩ := h9
  subst e9
  show P 2 [some (rf a), some (rf v1), some (iv x), some (rf v2)] [] s0
  refine hP _ _ _ _ ?_
  refine grd (b := isOb (kd true s0 a) _ && (!true || (fixR a 0).isNone)) (by rw [ka, fx_hi ha]; rfl) ?_
  show P 5 [some (rf a), some (rf v1), some (iv x), some (rf v2)] [] (sR s0 a 0 (some (.inl v1)))
  generalize hs : sR s0 a 0 (some (.inl v1)) = s
  have k1 : kd true s a = (0, 19) := by rw [← hs]; exact ka
  refine hP _ _ _ _ ?_
  refine grd (b := isOb (kd true s a) _) (by rw [k1]; rfl) ?_
  show P 8 [some (rf a), some (rf v1), some (iv x), some (rf v2)] [] (sI s a 2 x)
  generalize hu : sI s a 2 x = u
  have k2 : kd true u a = (0, 19) := by rw [← hu]; exact k1
  refine hP _ _ _ _ ?_
  refine grd (b := isOb (kd true u a) _ && (!true || (fixR a 1).isNone)) (by rw [k2, fx_hi ha]; rfl) ?_
  exact ⟨rfl, by rw [← hu, ← hs]⟩
end DW_
