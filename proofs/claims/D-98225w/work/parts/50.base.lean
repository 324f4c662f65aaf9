/-! the reference's contracts: ways of writing -/
abbrev GX : Type := Nat × (Nat → Int32) × (Nat → AR)
abbrev tM : AV := .inr (.inr (some (.inl 200)))
abbrev iv (x : Int32) : AV := .inl x
abbrev jv (x : Int64) : AV := .inr (.inl x)
abbrev NoX : AS → Prop := fun _ => False
abbrev MC (G : CX) (g : GX) (l : Launch) (d mi : Nat) (as : List AV) (σ : AS) (N : Option AV → AS → Prop) : Prop := CT G (true, g) l d mi as σ N NoX
theorem MC0 {G : CX} {g : GX} {l : Launch} {d mi : Nat} {y : MethodName} {cc : ByteArray} {mL : Nat} {rt : Option FieldType} {as : List AV} {s0 : AS} {N : Option AV → AS → Prop} (tab : List Ent)
    (hq : getM MT mi = some (y, cc, mL, rt, [])) (hT : TabOK y.cls rt cc tab) (hfin : tab.all (finOK mL false) = true) (hy : plainName y.cls = true) (h0 : pcAt tab 0 = 0) (hw : Nat.ble (argW as) mL = true)
    (body : ∀ P : KN, run (true, g) (callP G (true, g) l (d+1)) tab [] P N NoX 1000 0 (lsOf mL as) [] s0) : MC G g l (d+1) mi as s0 N :=
  CT_intro tab [] false hq hT hfin rfl hy (fun _ h => h.elim) h0 hw (fun P hP => hP _ _ _ _ (body P))
theorem MC1 {G : CX} {g : GX} {l : Launch} {d mi : Nat} {y : MethodName} {cc : ByteArray} {mL : Nat} {rt : Option FieldType} {as : List AV} {s0 : AS} {N : Option AV → AS → Prop} (tab : List Ent) (labs : List Nat)
    (hq : getM MT mi = some (y, cc, mL, rt, [])) (hT : TabOK y.cls rt cc tab) (hfin : tab.all (finOK mL false) = true) (hy : plainName y.cls = true) (h0 : pcAt tab 0 = 0) (hw : Nat.ble (argW as) mL = true)
    (body : ∀ P : KN, (∀ i ls st σ, run (true, g) (callP G (true, g) l (d+1)) tab labs P N NoX 1000 i ls st σ → P i ls st σ) → P 0 (lsOf mL as) [] s0) : MC G g l (d+1) mi as s0 N :=
  CT_intro tab labs false hq hT hfin rfl hy (fun _ h => h.elim) h0 hw body
theorem mcall {G : CX} {g : GX} {l : Launch} {d mi : Nat} {as : List AV} {s : AS} {N kn : Option AV → AS → Prop} {kx : AS → Prop} (h : MC G g l d mi as s N) (hn : ∀ r s', N r s' → kn r s') : callP G (true, g) l (d+1) mi as s kn kx := ⟨N, NoX, h, hn, fun _ h => h.elim⟩
/-- a truth as an int -/
def bI (b : Bool) : Int32 := if b then nI 1 else nI 0
theorem bI_t : bI true = nI 1 := rfl
theorem bI_f : bI false = nI 0 := rfl
theorem nar_bI (b : Bool) : NarOK 1 (bI b) := by cases b <;> exact ⟨rfl, rfl⟩
theorem nar1 : NarOK 1 (nI 1) := ⟨rfl, rfl⟩
theorem nar0 : NarOK 1 (nI 0) := ⟨rfl, rfl⟩
theorem vin (n N : Nat) (h : Nat.blt n N = true) (h2 : Nat.ble N 1000000 = true) : vp_in (nI n) N := vp_in_nI (Nat.le_of_ble_eq_true h) (Nat.lt_of_le_of_lt (Nat.le_of_ble_eq_true h2) (by decide))
theorem vinN {n N : Nat} (h : n < N) (h2 : N ≤ 1000000) : vp_in (nI n) N := vp_in_nI h (Nat.lt_of_le_of_lt h2 (by decide))
theorem clN {n : Nat} (h : n < 2147483648) : (nI n).toNatClampNeg = n := nI_clamp h
theorem gI_sL (s : AS) (a k b j : Nat) (v : Int64) : gI (sL s a k v) b j = gI s b j := rfl
theorem gL_sI (s : AS) (a k b j : Nat) (v : Int32) : gL (sI s a k v) b j = gL s b j := rfl
/-- nothing else has changed: fields fs of the reference, its arrays ids -/
def mS (fs ids : List Nat) (σ s : AS) : Prop := (∀ a k, a ∉ ids → (a = 200 → k ∉ fs) → gI s a k = gI σ a k ∧ gL s a k = gL σ a k) ∧ s.2.2 = σ.2.2
theorem mS.rf {fs ids : List Nat} {σ : AS} : mS fs ids σ σ := ⟨fun _ _ _ _ => ⟨rfl, rfl⟩, rfl⟩
theorem mS.tr {fs ids : List Nat} {σ s t : AS} (h1 : mS fs ids σ s) (h2 : mS fs ids s t) : mS fs ids σ t :=
  ⟨fun a k h3 h4 => ⟨(h2.1 a k h3 h4).1.trans (h1.1 a k h3 h4).1, (h2.1 a k h3 h4).2.trans (h1.1 a k h3 h4).2⟩, h2.2.trans h1.2⟩
theorem mS.mono {fs ids fs' ids' : List Nat} {σ s : AS} (h : mS fs ids σ s) (h1 : fs.all (fun k => fs'.contains k) = true) (h2 : ids.all (fun k => ids'.contains k) = true) : mS fs' ids' σ s := by
  refine ⟨fun a k h3 h4 => h.1 a k (fun q => h3 ?_) (fun e q => h4 e ?_), h.2⟩
  · have := List.all_eq_true.mp h2 a q
    simpa using this
  · have := List.all_eq_true.mp h1 k q
    simpa using this
theorem mS.f {fs ids : List Nat} {σ s : AS} (h : mS fs ids σ s) {k : Nat} {v : Int32} (hk : fs.contains k = true) : mS fs ids σ (sI s 200 k v) := by
  refine ⟨fun a j h3 h4 => ?_, h.2⟩
  rw [gL_sI, gI_sI, if_neg]
  · exact h.1 a j h3 h4
  · rintro ⟨rfl, rfl⟩
    exact h4 rfl (by simpa using hk)
theorem mS.fl {fs ids : List Nat} {σ s : AS} (h : mS fs ids σ s) {k : Nat} {v : Int64} (hk : fs.contains k = true) : mS fs ids σ (sL s 200 k v) := by
  refine ⟨fun a j h3 h4 => ?_, h.2⟩
  rw [gI_sL, gL_sL, if_neg]
  · exact h.1 a j h3 h4
  · rintro ⟨rfl, rfl⟩
    exact h4 rfl (by simpa using hk)
theorem mS.a {fs ids : List Nat} {σ s : AS} (h : mS fs ids σ s) {b k : Nat} {v : Int32} (hk : ids.contains b = true) : mS fs ids σ (sI s b k v) := by
  refine ⟨fun a j h3 h4 => ?_, h.2⟩
  rw [gL_sI, gI_sI, if_neg]
  · exact h.1 a j h3 h4
  · rintro ⟨rfl, rfl⟩
    exact h3 (by simpa using hk)
theorem mS.al {fs ids : List Nat} {σ s : AS} (h : mS fs ids σ s) {b k : Nat} {v : Int64} (hk : ids.contains b = true) : mS fs ids σ (sL s b k v) := by
  refine ⟨fun a j h3 h4 => ?_, h.2⟩
  rw [gI_sL, gL_sL, if_neg]
  · exact h.1 a j h3 h4
  · rintro ⟨rfl, rfl⟩
    exact h3 (by simpa using hk)
/-- a kept int, a kept long -/
theorem mS.i {fs ids : List Nat} {σ s : AS} (h : mS fs ids σ s) (a k : Nat) (h1 : ids.contains a = false) (h2 : (Nat.beq a 200 && fs.contains k) = false) : gI s a k = gI σ a k := by
  refine (h.1 a k (by simpa using h1) (fun e q => ?_)).1
  subst e
  have : fs.contains k = true := by simpa using q
  rw [this] at h2
  cases h2
theorem mS.ia {fs ids : List Nat} {σ s : AS} (h : mS fs ids σ s) (a : Nat) (h1 : ids.contains a = false) (h2 : Nat.beq a 200 = false) (k : Nat) : gI s a k = gI σ a k := h.i a k h1 (by rw [h2]; rfl)
theorem mS.l {fs ids : List Nat} {σ s : AS} (h : mS fs ids σ s) (a k : Nat) (h1 : ids.contains a = false) (h2 : (Nat.beq a 200 && fs.contains k) = false) : gL s a k = gL σ a k := by
  refine (h.1 a k (by simpa using h1) (fun e q => ?_)).2
  subst e
  have : fs.contains k = true := by simpa using q
  rw [this] at h2
  cases h2
theorem mS.la {fs ids : List Nat} {σ s : AS} (h : mS fs ids σ s) (a : Nat) (h1 : ids.contains a = false) (h2 : Nat.beq a 200 = false) (k : Nat) : gL s a k = gL σ a k := h.l a k h1 (by rw [h2]; rfl)
