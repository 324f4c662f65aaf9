/-! one step -/
def RetH (p : Program) (l : Launch) (e : Env) (R : Room) (s : State) (m : MethodId) (args : Array Value) (below : List Frame) (meth : Method) (c : Code) (G : CX) (g : GM) (cc : ByteArray) (rt : Option FieldType) (Q : State → Prop) (N : Option AV → AS → Prop) : Prop :=
  ∀ (r : Option AV) (σ' : AS) (H : Heap) (locs : List Loc) (la : Array Slot) (cells slots pc : Nat), N r σ' → Hold G g.1 σ' H → (∀ q ∈ locs, G.2.2.1 ≤ q.base) →
    (match r with
    | some (.inl v) => decode cc pc = .ok (.ireturn, 1) ∧ ∃ t, rt = some (tyOf t) ∧ narrow (tyOf t) (.int v) = .int v
    | some (.inr (.inl _)) => decode cc pc = .ok (.lreturn, 1) ∧ rt = some .long
    | some (.inr (.inr _)) => decode cc pc = .ok (.areturn, 1) ∧ ((∃ n, rt = some (.object n)) ∨ ∃ t, rt = some (.array t))
    | none => decode cc pc = .ok (.return_, 1) ∧ rt = none) → W p l e R s m args below meth c H locs cells slots Q (F0 m pc la (r.toList.map (cv G)))
def ThrH (p : Program) (l : Launch) (e : Env) (R : Room) (s : State) (m : MethodId) (args : Array Value) (below : List Frame) (meth : Method) (c : Code) (G : CX) (g : GM) (hs : Nat → Option Nat) (Q : State → Prop) (X : AS → Prop) : Prop :=
  ∀ (σ' : AS) (H : Heap) (locs : List Loc) (la : Array Slot) (cells slots pc : Nat) (st : List Value), hs pc = none → X σ' → Hold G g.1 σ' H → (∀ q ∈ locs, G.2.2.1 ≤ q.base) → vx_W p l e R s m args below meth c H locs cells slots Q (F0 m pc la st) (G.2.2.1 + 10)
/-- what a handler takes on -/
def CatH (p : Program) (l : Launch) (e : Env) (R : Room) (s : State) (m : MethodId) (args : Array Value) (below : List Frame) (meth : Method) (c : Code) (G : CX) (g : GM) (tab : List Ent) (nL : Nat) (hs : Nat → Option Nat) (Q : State → Prop) : Prop :=
  ∀ (pc h : Nat), hs pc = some h → ∀ (σ' : AS) (H : Heap) (locs : List Loc) (la : Array Slot) (c3 c4 : Nat) (st : List Value) (ls' : LSt), LsOK G la nL ls' → Wk p l e R s m args below meth c G g tab nL Q h ls' [.inr (.inr (some (.inl 10)))] σ' → Hold G g.1 σ' H → (∀ q ∈ locs, G.2.2.1 ≤ q.base) → vx_W p l e R s m args below meth c H locs c3 c4 Q (F0 m pc la st) (G.2.2.1 + 10)
section Snd
variable {p : Program} {l : Launch} {e : Env} {R : Room} {s : State} {m : MethodId} {args : Array Value} {below : List Frame} {meth : Method} {c : Code} {H : Heap} {locs : List Loc} {cells slots : Nat} {Q : State → Prop}
variable {G : CX} {g : GM} {own : String} {cc : ByteArray} {nL d : Nat} {s0 σ : AS} {ini : Bool} {pc : Nat} {ls : Array Slot} {rest : List Value}
theorem am_run {mc ms : Nat} {st0 : List Value} {a : Array Value} {N' : Option AV → AS → Prop} {X' : AS → Prop} (hrun : vx_Run p l e R s m args below meth c H locs cells slots mc ms (F0 m pc ls st0) rest (QcA G g N' a) (XcA G g X') (fun q => G.2.2.1 ≤ q)) (hL : ∀ q ∈ locs, G.2.2.1 ≤ q.base)
    (kn : ∀ (r : Option AV) (σ' : AS) (H' : Heap) (locs' : List Loc) (cells' slots' : Nat), N' r σ' → Hold G g.1 σ' H' → (∀ q ∈ locs', G.2.2.1 ≤ q.base) → W p l e R s m args below meth c H' locs' cells' slots' Q (F0 m (pc + 3) ls (r.toList.map (cv G) ++ rest)))
    (kx : ∀ (σ' : AS) (H' : Heap) (locs' : List Loc) (cells' slots' : Nat), X' σ' → Hold G g.1 σ' H' → (∀ q ∈ locs', G.2.2.1 ≤ q.base) → vx_W p l e R s m args below meth c H' locs' cells' slots' Q (F0 m pc ls rest) (G.2.2.1 + 10)) :
    W p l e R s m args below meth c H locs cells slots Q (F0 m pc ls st0) := by
  intro T hT X
  have hLL : ∀ L : List Loc, (∀ q ∈ L, G.2.2.1 ≤ q.base) → ∀ q ∈ locs ++ L, G.2.2.1 ≤ q.base := fun L h q hq => (List.mem_append.mp hq).elim (hL q) (h q)
  rcases hrun T hT X with ⟨v, st₀, t, T', L, -, X', hf, h1, h2, hQ, hgo⟩ | ⟨q, st₀, t, T', L, E, ce, -, X', hf, h1, h2, hX, -, -, -, hgo⟩
  · obtain ⟨r, σ', hr, hN, hH⟩ := hQ
    cases hr
    obtain ⟨t', a1, b1⟩ := kn r σ' T'.heap (locs ++ L) (cells + mc) (slots + ms) hN (by rw [h1]; exact hH) (hLL L hf) T' rfl X'
    have e1 : (r.map (cv G)).toList = r.toList.map (cv G) := by cases r <;> rfl
    rw [e1] at hgo
    exact ⟨t', hgo t' a1, b1⟩
  · obtain ⟨-, rfl, σ', hX, hH⟩ := hX
    obtain ⟨t', a1, b1⟩ := kx σ' T'.heap (locs ++ L) (cells + mc) (slots + ms) hX (by rw [h1]; exact hH) (hLL L hf) T' rfl X'
    exact ⟨t', Steps.trans hgo a1, b1⟩
end Snd
