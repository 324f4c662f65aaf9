/-! SUMS of the reader: what a contract says (k: 0 a sum, 1 a product, 2 a part: each level leaves 7 cells, 60 slots) -/
def uB (tp : List Nat) : Nat := 2 * tp.length + 200
def rmS (tp : List Nat) (k a : Nat) (σ : AS) : Prop := 268 ≤ zn σ ∧ zn σ + 20 * (tp.length - a) + (40 - 7 * k) ≤ CMAX ∧ zu σ + uB tp * (tp.length - a) + 2 * tp.length + (400 - 60 * k) ≤ SMAX
def smN (q : Bool) (tp : List Nat) (D k a : Nat) (σ : AS) (x : List Nat × Nat) (r : Option AV) (t : AS) : Prop := ∃ v e, r = some (rf v) ∧ skp tp e = x.2 ∧ a < e ∧ e ≤ tp.length ∧ fS (fun c => c = 9) σ t ∧ zn t + 7 * k ≤ zn σ + 20 * (e - a) ∧ zu t + 60 * k ≤ zu σ + uB tp * (e - a) ∧ gI t 9 2 = nI e ∧ (∀ k, k ≠ 2 → k ≠ 3 → gI t 9 k = gI σ 9 k) ∧ VAL (fun c => zn σ ≤ c ∧ c < zn t) q t D v x.1
def smC (G : CX) (g : GX) (l : Launch) (q : Bool) (tp : List Nat) (mi dep D k o f md : Nat) : Prop := ∀ (σ : AS) (a : Nat) (z : PR (List Nat)), XRr tp σ → gI σ 9 2 = nI a → a ≤ tp.length → gI σ 9 4 = nI o → gI σ 9 5 = bI q → rmS tp k a σ → prs q tp f md o [] (skp tp a) = some z →
  XC G g l dep mi [tR] σ (fun r t => ∃ x, z = .ok x ∧ smN q tp D k a σ x r t) (fun t => ∃ f, z = .error f ∧ thP σ (20 * (tp.length - a) + (40 - 7 * k)) (uB tp * (tp.length - a) + 2 * tp.length + (400 - 60 * k)) f t)
theorem VAL.ob {P : Nat → Prop} {q : Bool} {σ : AS} : ∀ {d a : Nat} {cs : List Nat}, VAL P q σ d a cs → P a ∧ ∃ c, c < 20 ∧ kd true σ a = (0, c)
  | 0, _, _, h => h.elim
  | d+1, a, cs, h => by
    refine ⟨h.1, ?_⟩
    rcases h.2 with h | h | h | h | h
    · exact ⟨11, by omega, h.1⟩
    · exact ⟨12, by omega, h.1⟩
    · exact ⟨10, by omega, h.1⟩
    · exact ⟨9, by omega, h.1⟩
    · exact ⟨13, by omega, h.1⟩
