section JE_
variable (G : CX) (g : GX) (l : Launch) (d : Nat) (σ : AS)
theorem j_elementData (a e i n : Nat) (hk : kd true σ a = (0, 20)) (hr : gR true σ a 1 = some (.inl e)) (he : kd true σ e = (7, n)) (hi : i < n) (hn : n < 1000000) : MC G g l (d+1) mJ2_elementData [rf a, iv (nI i)] σ (fun r t => r = some (.inr (.inr (gR true σ e i))) ∧ t = σ) := by
  refine MC1 tJ2_elementData [2] rfl okJ2_elementData rfl rfl rfl rfl (fun P hP => ?_)
  refine hP _ _ _ _ ?_
  refine grd (b := isOb (kd true σ a) _) (by rw [hk]; rfl) ?_
  show P 2 [some (rf a), some (iv (nI i))] [.inr (.inr (gR true σ a 1))] σ
  rw [hr]
  refine hP _ _ _ _ ?_
  refine grd (b := Nat.ble 7 (kd true σ e).1 && Nat.ble (kd true σ e).1 10) (by rw [he]; rfl) ?_
  refine And.intro (show vp_in (nI i) (kd true σ e).2 from by rw [he]; exact vinN hi (by show n ≤ 1000000; omega)) ⟨?_, rfl⟩
  show some (Sum.inr (Sum.inr (gR true σ e (nI i).toNatClampNeg))) = _
  rw [clN (by omega)]
end JE_
