/-! lists of the JDK at any cell -/
abbrev rf (a : Nat) : AV := .inr (.inr (some (.inl a)))
theorem grd {b : Bool} {P : Prop} (h : b = true) (hp : P) : Grd b P := by rw [h]; exact hp
section JL_
variable (G : CX) (g : GX) (l : Launch) (d : Nat) (σ : AS)
theorem j_size (a : Nat) (hk : kd true σ a = (0, 20)) : MC G g l (d+1) mJ2_size [rf a] σ (fun r t => r = some (iv (gI σ a 2)) ∧ t = σ) := by
  refine MC0 tJ2_size rfl okJ2_size rfl rfl rfl rfl (fun P => ?_)
  refine grd (b := isOb (kd true σ a) _) (by rw [hk]; rfl) ?_
  exact ⟨rfl, rfl⟩
end JL_
