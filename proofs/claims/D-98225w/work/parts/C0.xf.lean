/-! the component: ways of writing -/
abbrev tX : AV := .inr (.inr (some (.inl 0)))
def xS (fs ids : List Nat) (σ s : AS) : Prop := (∀ a k, a ∉ ids → (a = 0 → k ∉ fs) → gI s a k = gI σ a k ∧ gL s a k = gL σ a k) ∧ s.2.2 = σ.2.2
theorem xS.rf {fs ids : List Nat} {σ : AS} : xS fs ids σ σ := ⟨fun _ _ _ _ => ⟨rfl, rfl⟩, rfl⟩
theorem xS.tr {fs ids : List Nat} {σ s t : AS} (h1 : xS fs ids σ s) (h2 : xS fs ids s t) : xS fs ids σ t :=
  ⟨fun a k h3 h4 => ⟨(h2.1 a k h3 h4).1.trans (h1.1 a k h3 h4).1, (h2.1 a k h3 h4).2.trans (h1.1 a k h3 h4).2⟩, h2.2.trans h1.2⟩
theorem xS.mono {fs ids fs' ids' : List Nat} {σ s : AS} (h : xS fs ids σ s) (h1 : fs.all (fun k => fs'.contains k) = true) (h2 : ids.all (fun k => ids'.contains k) = true) : xS fs' ids' σ s := by
  refine ⟨fun a k h3 h4 => h.1 a k (fun q => h3 ?_) (fun e q => h4 e ?_), h.2⟩
  · have := List.all_eq_true.mp h2 a q
    simpa using this
  · have := List.all_eq_true.mp h1 k q
    simpa using this
theorem xS.f {fs ids : List Nat} {σ s : AS} (h : xS fs ids σ s) {k : Nat} {v : Int32} (hk : fs.contains k = true) : xS fs ids σ (sI s 0 k v) := by
  refine ⟨fun a j h3 h4 => ?_, h.2⟩
  rw [gL_sI, gI_sI, if_neg]
  · exact h.1 a j h3 h4
  · rintro ⟨rfl, rfl⟩
    exact h4 rfl (by simpa using hk)
theorem xS.fl {fs ids : List Nat} {σ s : AS} (h : xS fs ids σ s) {k : Nat} {v : Int64} (hk : fs.contains k = true) : xS fs ids σ (sL s 0 k v) := by
  refine ⟨fun a j h3 h4 => ?_, h.2⟩
  rw [gI_sL, gL_sL, if_neg]
  · exact h.1 a j h3 h4
  · rintro ⟨rfl, rfl⟩
    exact h4 rfl (by simpa using hk)
theorem xS.a {fs ids : List Nat} {σ s : AS} (h : xS fs ids σ s) {b k : Nat} {v : Int32} (hk : ids.contains b = true) : xS fs ids σ (sI s b k v) := by
  refine ⟨fun a j h3 h4 => ?_, h.2⟩
  rw [gL_sI, gI_sI, if_neg]
  · exact h.1 a j h3 h4
  · rintro ⟨rfl, rfl⟩
    exact h3 (by simpa using hk)
theorem xS.al {fs ids : List Nat} {σ s : AS} (h : xS fs ids σ s) {b k : Nat} {v : Int64} (hk : ids.contains b = true) : xS fs ids σ (sL s b k v) := by
  refine ⟨fun a j h3 h4 => ?_, h.2⟩
  rw [gI_sL, gL_sL, if_neg]
  · exact h.1 a j h3 h4
  · rintro ⟨rfl, rfl⟩
    exact h3 (by simpa using hk)
/-- a kept int, a kept long -/
theorem xS.i {fs ids : List Nat} {σ s : AS} (h : xS fs ids σ s) (a k : Nat) (h1 : ids.contains a = false) (h2 : (Nat.beq a 0 && fs.contains k) = false) : gI s a k = gI σ a k := by
  refine (h.1 a k (by simpa using h1) (fun e q => ?_)).1
  subst e
  have : fs.contains k = true := by simpa using q
  rw [this] at h2
  cases h2
theorem xS.ia {fs ids : List Nat} {σ s : AS} (h : xS fs ids σ s) (a : Nat) (h1 : ids.contains a = false) (h2 : Nat.beq a 0 = false) (k : Nat) : gI s a k = gI σ a k := h.i a k h1 (by rw [h2]; rfl)
theorem xS.l {fs ids : List Nat} {σ s : AS} (h : xS fs ids σ s) (a k : Nat) (h1 : ids.contains a = false) (h2 : (Nat.beq a 0 && fs.contains k) = false) : gL s a k = gL σ a k := by
  refine (h.1 a k (by simpa using h1) (fun e q => ?_)).2
  subst e
  have : fs.contains k = true := by simpa using q
  rw [this] at h2
  cases h2
theorem xS.la {fs ids : List Nat} {σ s : AS} (h : xS fs ids σ s) (a : Nat) (h1 : ids.contains a = false) (h2 : Nat.beq a 0 = false) (k : Nat) : gL s a k = gL σ a k := h.l a k h1 (by rw [h2]; rfl)

