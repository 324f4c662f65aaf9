section JG_
variable (G : CX) (g : GX) (l : Launch) (d : Nat) (σ : AS)
theorem j_get (a e i m n : Nat) (hk : kd true σ a = (0, 20)) (hs : gI σ a 2 = nI m) (hr : gR true σ a 1 = some (.inl e)) (he : kd true σ e = (7, n)) (hi : i < m) (hm : m ≤ n) (hn : n < 1000000) : MC G g l (d+3) mJ2_get [rf a, iv (nI i)] σ (fun r t => r = some (.inr (.inr (gR true σ e i))) ∧ t = σ) := by
  refine MC1 tJ2_get [3] rfl okJ2_get rfl rfl rfl rfl (fun P hP => ?_)
  refine hP _ _ _ _ ?_
  refine grd (b := isOb (kd true σ a) _) (by rw [hk]; rfl) ?_
  show P 3 [some (rf a), some (iv (nI i))] [iv (gI σ a 2), iv (nI i)] σ
  rw [hs]
  refine hP _ _ _ _ ?_
  refine mcall (j_check11 G g l d σ i m hi (by omega)) (fun r s1 h9 => ?_)
  obtain ⟨rfl, e9⟩ := h9
  subst e9
  refine grd (b := Nat.beq (kd true s1 a).1 0) (by rw [hk]; rfl) ?_
  rw [show kdA (true, g) s1 (.inl a) = (0, 20) from hk]
  refine mcall (j_elementData G g l (d+1) s1 a e i n hk hr he (by omega) hn) (fun r s2 h9 => ?_)
  obtain ⟨rfl, e9⟩ := h9
  exact ⟨rfl, e9⟩
end JG_
