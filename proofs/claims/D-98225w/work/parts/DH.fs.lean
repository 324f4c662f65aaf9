/-! FRAMES WHILE BUILDING: old cells outside of Q stay; new cells are free -/
def fS (Q : Nat → Prop) (σ t : AS) : Prop := (∀ c, c < zn σ → ¬ Q c → ∀ k, gI t c k = gI σ c k ∧ gL t c k = gL σ c k ∧ gR true t c k = gR true σ c k) ∧ (∀ c, c < zn σ → kd true t c = kd true σ c) ∧ zn σ ≤ zn t ∧ zu σ ≤ zu t
theorem fS.rf {Q : Nat → Prop} {σ : AS} : fS Q σ σ := ⟨fun _ _ _ _ => ⟨rfl, rfl, rfl⟩, fun _ _ => rfl, Nat.le_refl _, Nat.le_refl _⟩
theorem fS.tr {Q Q' : Nat → Prop} {σ s t : AS} (h1 : fS Q σ s) (h2 : fS Q' s t) (hq : ∀ c, c < zn σ → Q' c → Q c) : fS Q σ t :=
  ⟨fun c h0 hc k => by
    have q1 := h1.1 c h0 hc k
    have q2 := h2.1 c (Nat.lt_of_lt_of_le h0 h1.2.2.1) (fun z => hc (hq c h0 z)) k
    exact ⟨q2.1.trans q1.1, q2.2.1.trans q1.2.1, q2.2.2.trans q1.2.2⟩,
   fun c h0 => (h2.2.1 c (Nat.lt_of_lt_of_le h0 h1.2.2.1)).trans (h1.2.1 c h0), Nat.le_trans h1.2.2.1 h2.2.2.1, Nat.le_trans h1.2.2.2 h2.2.2.2⟩
theorem fS.mono {Q Q' : Nat → Prop} {σ t : AS} (h : fS Q σ t) (hq : ∀ c, c < zn σ → Q c → Q' c) : fS Q' σ t := ⟨fun c h0 hc k => h.1 c h0 (fun z => hc (hq c h0 z)) k, h.2⟩
theorem fS.agr {Q P : Nat → Prop} {σ t : AS} (h : fS Q σ t) (hp : ∀ c, P c → c < zn σ ∧ ¬ Q c) : agr P σ t := fun c hc => ⟨fun k => h.1 c (hp c hc).1 (hp c hc).2 k, h.2.1 c (hp c hc).1⟩
theorem fS.nw1 {Q : Nat → Prop} {σ s : AS} {q : Nat × Nat} {n : Nat} (h : fS Q σ s) (hz : 268 ≤ zn s) : fS Q σ (nw s q n) := by
  have h2 : kS [] [] s (nw s q n) := kS.nw hz
  exact h.tr (Q' := fun _ => False) ⟨fun c h0 _ k => h2.1 c k h0 (fun z => by cases z) (fun _ z => by cases z), h2.2⟩ (fun c _ z => z.elim)
theorem fS.i {Q : Nat → Prop} {σ s : AS} (h : fS Q σ s) {b k : Nat} {v : Int32} (hb : Q b ∨ zn σ ≤ b) : fS Q σ (sI s b k v) := by
  refine ⟨fun c h0 hc j => ?_, h.2⟩
  have q := h.1 c h0 hc j
  rw [gL_sI, gI_sI, if_neg (fun z => by
    rcases hb with y | y
    · exact hc (z.1 ▸ y)
    · omega), gR_sI]
  exact q
theorem fS.l {Q : Nat → Prop} {σ s : AS} (h : fS Q σ s) {b k : Nat} {v : Int64} (hb : Q b ∨ zn σ ≤ b) : fS Q σ (sL s b k v) := by
  refine ⟨fun c h0 hc j => ?_, h.2⟩
  have q := h.1 c h0 hc j
  refine ⟨q.1, ?_, q.2.2⟩
  show (if c = b ∧ j = k then v else s.2.1 c j) = _
  rw [if_neg (fun z => by
    rcases hb with y | y
    · exact hc (z.1 ▸ y)
    · omega)]
  exact q.2.1
theorem fS.r {Q : Nat → Prop} {σ s : AS} (h : fS Q σ s) {b k : Nat} {v : AR} (hb : Q b ∨ zn σ ≤ b) : fS Q σ (sR s b k v) := by
  refine ⟨fun c h0 hc j => ?_, h.2⟩
  have q := h.1 c h0 hc j
  refine ⟨q.1, q.2.1, ?_⟩
  show rfx c j (if c = b ∧ j = k then v else s.2.2.1 c j) = _
  rw [if_neg (fun z => by
    rcases hb with y | y
    · exact hc (z.1 ▸ y)
    · omega)]
  exact q.2.2
theorem fS.cI {Q : Nat → Prop} {σ s : AS} (h : fS Q σ s) {b a sp dp n : Nat} (hb : Q a ∨ zn σ ≤ a) : fS Q σ (cpI s b a sp dp n) := by
  refine ⟨fun c h0 hc j => ?_, h.2⟩
  have q := h.1 c h0 hc j
  refine ⟨?_, q.2.1, q.2.2⟩
  show (if c = a then _ else s.1 c j) = _
  rw [if_neg (fun z => by
    rcases hb with y | y
    · exact hc (z ▸ y)
    · omega)]
  exact q.1
theorem fS.cR {Q : Nat → Prop} {σ s : AS} (h : fS Q σ s) {b a sp dp n : Nat} (hb : Q a ∨ zn σ ≤ a) : fS Q σ (cpR s b a sp dp n) := by
  refine ⟨fun c h0 hc j => ?_, h.2⟩
  have q := h.1 c h0 hc j
  refine ⟨q.1, q.2.1, ?_⟩
  show rfx c j (if c = a then _ else s.2.2.1 c j) = _
  rw [if_neg (fun z => by
    rcases hb with y | y
    · exact hc (z ▸ y)
    · omega)]
  exact q.2.2
theorem rfx_hi {a : Nat} (h : 268 ≤ a) (k : Nat) (r : AR) : rfx a k r = r := by
  unfold rfx
  rw [fixR_dyn h k]
theorem fx_hi {a : Nat} (h : 268 ≤ a) (k : Nat) : (!true || (fixR a k).isNone) = true := by rw [fixR_dyn h k]; rfl
theorem gR_set {s : AS} {a k c j : Nat} {v : AR} (h : 268 ≤ a) : gR true (sR s a k v) c j = if c = a ∧ j = k then v else gR true s c j := by
  show rfx c j (if c = a ∧ j = k then v else s.2.2.1 c j) = _
  by_cases e : c = a ∧ j = k
  · rw [if_pos e, if_pos e, e.1, rfx_hi h]
  · rw [if_neg e, if_neg e]; rfl
theorem gR_nw2 {s : AS} {q : Nat × Nat} {n c j : Nat} (h : 268 ≤ zn s) : gR true (nw s q n) c j = if c = zn s then none else gR true s c j := by
  show rfx c j (if c = zn s then none else s.2.2.1 c j) = _
  by_cases e : c = zn s
  · rw [if_pos e, if_pos e, e, rfx_hi h]
  · rw [if_neg e, if_neg e]; rfl
theorem gI_nw {s : AS} {q : Nat × Nat} {n c j : Nat} : gI (nw s q n) c j = if c = zn s then 0 else gI s c j := rfl
theorem gR_cp2 {s : AS} {b a sp dp n c j : Nat} (ha : 268 ≤ a) (hb : 268 ≤ b) : gR true (cpR s b a sp dp n) c j = if c = a then (if dp ≤ j ∧ j < dp + n then gR true s b (sp + (j - dp)) else gR true s a j) else gR true s c j := by
  show rfx c j (if c = a then (if dp ≤ j ∧ j < dp + n then s.2.2.1 b (sp + (j - dp)) else s.2.2.1 a j) else s.2.2.1 c j) = _
  by_cases e : c = a
  · rw [if_pos e, if_pos e, e, rfx_hi ha]
    by_cases e2 : dp ≤ j ∧ j < dp + n
    · rw [if_pos e2, if_pos e2]
      show _ = rfx b _ _
      rw [rfx_hi hb]
    · rw [if_neg e2, if_neg e2]
      show _ = rfx a _ _
      rw [rfx_hi ha]
  · rw [if_neg e, if_neg e]; rfl
theorem kd_nwo {s : AS} {q : Nat × Nat} {n c : Nat} (h : c < zn s) : kd true (nw s q n) c = kd true s c := by
  unfold kd
  cases hb : Nat.ble NF c with
  | false => rfl
  | true => show (if c = zn s then q else s.2.2.2.1 c) = s.2.2.2.1 c; rw [if_neg (by omega)]
