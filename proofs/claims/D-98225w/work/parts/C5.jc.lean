section JC_
variable (G : CX) (g : GX) (l : Launch) (d : Nat) (σ : AS)
theorem j_check8 (i n : Nat) (h : i < n) (hn : n < 1000000) : MC G g l (d+1) mJ8_checkIndex [iv (nI i), iv (nI n), .inr (.inr none)] σ (fun r t => r = some (iv (nI i)) ∧ t = σ) := by
  refine MC0 tJ8_checkIndex rfl okJ8_checkIndex rfl rfl rfl rfl (fun P => ?_)
  have h0 : ¬ nI i < nI 0 := by rw [nI_ltI (by omega) (by omega)]; omega
  have h1 : nI i < nI n := by rw [nI_ltI (by omega) (by omega)]; exact h
  exact And.intro (fun q => absurd q h0) (fun _ => And.intro (fun _ => ⟨rfl, rfl⟩) (fun q => absurd h1 q))
theorem j_check11 (i n : Nat) (h : i < n) (hn : n < 1000000) : MC G g l (d+2) mJ11_checkIndex [iv (nI i), iv (nI n)] σ (fun r t => r = some (iv (nI i)) ∧ t = σ) := by
  refine MC0 tJ11_checkIndex rfl okJ11_checkIndex rfl rfl rfl rfl (fun P => ?_)
  refine mcall (j_check8 G g l d σ i n h hn) (fun r s1 h9 => ?_)
  obtain ⟨rfl, e9⟩ := h9
  exact ⟨rfl, e9⟩
end JC_
