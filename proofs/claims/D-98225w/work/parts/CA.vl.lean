/-! VALUES: a tree of the component beside its codes -/
def askC (q : Bool) (k : Nat) : Nat := if q = true then 40 + k else if k = 1 then 9 else if k = 2 then 10 else if k = 3 then 7 else 8
def askOK (q : Bool) (k : Nat) : Prop := if q = true then k < 3 else 1 ≤ k ∧ k ≤ 4
def opC (g : Nat) : Nat := if g = 43 then 1 else if g = 45 then 2 else if g = 42 then 3 else 4
def sgOK (g : Nat) : Prop := g = 43 ∨ g = 45 ∨ g = 42 ∨ g = 47
abbrev Itm : Type := Nat × List Nat × Nat
def itC (r : List Itm) : List Nat := r.flatMap (fun y => y.2.1 ++ [opC y.2.2])
def chC : List Itm → List Nat
  | [] => []
  | x :: r => x.2.1 ++ itC r
theorem chC_snoc {xs : List Itm} {y : Itm} (h : xs ≠ []) : chC (xs ++ [y]) = chC xs ++ y.2.1 ++ [opC y.2.2] := by
  cases xs with
  | nil => exact absurd rfl h
  | cons x r => simp [chC, itC, List.flatMap_append]
def SBDe (P : Nat → Prop) (σ : AS) (a b cap : Nat) (gs : List Nat) : Prop := (P a ∧ P b) ∧ kd true σ a = (0, 21) ∧ kd true σ b = (2, cap) ∧ gI σ a 1 = nI 0 ∧ gI σ a 3 = nI gs.length ∧ gR true σ a 0 = some (.inl b) ∧ (gs.length ≤ cap ∧ cap ≤ 2 * gs.length + 34 ∧ gs.length ≤ 4000) ∧ (∀ (i x : Nat), gs[i]? = some x → gI σ b i = nI x ∧ sgOK x) ∧ (∀ j, NarOK 2 (gI σ b j))
def SBD (P : Nat → Prop) (σ : AS) (a : Nat) (gs : List Nat) : Prop := ∃ b cap, SBDe P σ a b cap gs
theorem SBDe.keep {P P' : Nat → Prop} {σ t : AS} {a b cap : Nat} {gs : List Nat} (h : SBDe P σ a b cap gs) (hA : agr P σ t) (hp : ∀ a, P a → P' a) : SBDe P' t a b cap gs := by
  obtain ⟨⟨p1, p2⟩, h1, h2, h3, h4, h5, h6, h7, h8⟩ := h
  refine ⟨⟨hp _ p1, hp _ p2⟩, (hA a p1).2.trans h1, (hA b p2).2.trans h2, ((hA a p1).1 1).1.trans h3, ((hA a p1).1 3).1.trans h4, ((hA a p1).1 0).2.2.trans h5, h6, fun i x hx => ⟨((hA b p2).1 i).1.trans (h7 i x hx).1, (h7 i x hx).2⟩, fun j => ?_⟩
  rw [((hA b p2).1 j).1]
  exact h8 j
theorem SBD.keep {P P' : Nat → Prop} {σ t : AS} {a : Nat} {gs : List Nat} (h : SBD P σ a gs) (hA : agr P σ t) (hp : ∀ a, P a → P' a) : SBD P' t a gs := by
  obtain ⟨e, cap, h⟩ := h
  exact ⟨e, cap, h.keep hA hp⟩
def VAL (P : Nat → Prop) (q : Bool) (σ : AS) : Nat → Nat → List Nat → Prop
  | 0, _, _ => False
  | d+1, a, cs => P a ∧ (
    (kd true σ a = (0, 11) ∧ ∃ n, n ≤ 9999 ∧ cs = [1000 + n] ∧ gL σ a 0 = lN n) ∨
    (kd true σ a = (0, 12) ∧ ∃ k, askOK q k ∧ cs = [askC q k] ∧ gI σ a 0 = nI k) ∨
    (kd true σ a = (0, 10) ∧ ∃ (m : Bool) (v1 v2 : Nat) (c1 c2 : List Nat), gI σ a 0 = bI m ∧ gR true σ a 1 = some (.inl v1) ∧ gR true σ a 2 = some (.inl v2) ∧ VAL P q σ d v1 c1 ∧ VAL P q σ d v2 c2 ∧ cs = c1 ++ c2 ++ [if m = true then 6 else 5]) ∨
    (kd true σ a = (0, 9) ∧ ∃ (lc sc : Nat) (xs : List Itm), gR true σ a 0 = some (.inl lc) ∧ gR true σ a 1 = some (.inl sc) ∧ xs ≠ [] ∧ LST P σ lc (xs.map (fun x => x.1)) ∧ SBD P σ sc (xs.map (fun x => x.2.2)) ∧ (∀ x ∈ xs, VAL P q σ d x.1 x.2.1) ∧ cs = chC xs) ∨
    (kd true σ a = (0, 13) ∧ q = true ∧ ∃ (k v : Nat) (c1 : List Nat), k < 3 ∧ gI σ a 0 = nI k ∧ gR true σ a 1 = some (.inl v) ∧ gR true σ a 2 = some (.inl 0) ∧ VAL P q σ d v c1 ∧ cs = c1 ++ [60 + k]))
theorem VAL.keep {P P' : Nat → Prop} {q : Bool} {σ t : AS} (hA : agr P σ t) (hp : ∀ a, P a → P' a) : ∀ (d a : Nat) (cs : List Nat), VAL P q σ d a cs → VAL P' q t d a cs
  | 0, _, _, h => h.elim
  | d+1, a, cs, h => by
    obtain ⟨pa, h⟩ := h
    have ea := hA a pa
    refine ⟨hp a pa, ?_⟩
    rcases h with ⟨k1, n, h1, h2, h3⟩ | ⟨k1, k, h1, h2, h3⟩ | ⟨k1, m, v1, v2, c1, c2, h1, h2, h3, h4, h5, h6⟩ | ⟨k1, lc, sc, xs, h1, h2, h3, h4, h5, h6, h7⟩ | ⟨k1, hq, k, v, c1, h1, h2, h3, h4, h5, h6⟩
    · exact Or.inl ⟨ea.2.trans k1, n, h1, h2, (ea.1 0).2.1.trans h3⟩
    · exact Or.inr (Or.inl ⟨ea.2.trans k1, k, h1, h2, (ea.1 0).1.trans h3⟩)
    · exact Or.inr (Or.inr (Or.inl ⟨ea.2.trans k1, m, v1, v2, c1, c2, (ea.1 0).1.trans h1, (ea.1 1).2.2.trans h2, (ea.1 2).2.2.trans h3, VAL.keep hA hp d v1 c1 h4, VAL.keep hA hp d v2 c2 h5, h6⟩))
    · exact Or.inr (Or.inr (Or.inr (Or.inl ⟨ea.2.trans k1, lc, sc, xs, (ea.1 0).2.2.trans h1, (ea.1 1).2.2.trans h2, h3, h4.keep hA hp, h5.keep hA hp, fun x hx => VAL.keep hA hp d x.1 x.2.1 (h6 x hx), h7⟩)))
    · exact Or.inr (Or.inr (Or.inr (Or.inr ⟨ea.2.trans k1, hq, k, v, c1, h1, (ea.1 0).1.trans h2, (ea.1 1).2.2.trans h3, (ea.1 2).2.2.trans h4, VAL.keep hA hp d v c1 h5, h6⟩)))
theorem VAL.up {P : Nat → Prop} {q : Bool} {σ : AS} : ∀ (d a : Nat) (cs : List Nat), VAL P q σ d a cs → VAL P q σ (d+1) a cs
  | 0, _, _, h => h.elim
  | d+1, a, cs, h => by
    obtain ⟨pa, h⟩ := h
    refine ⟨pa, ?_⟩
    rcases h with h | h | ⟨k1, m, v1, v2, c1, c2, h1, h2, h3, h4, h5, h6⟩ | ⟨k1, lc, sc, xs, h1, h2, h3, h4, h5, h6, h7⟩ | ⟨k1, hq, k, v, c1, h1, h2, h3, h4, h5, h6⟩
    · exact Or.inl h
    · exact Or.inr (Or.inl h)
    · exact Or.inr (Or.inr (Or.inl ⟨k1, m, v1, v2, c1, c2, h1, h2, h3, VAL.up d v1 c1 h4, VAL.up d v2 c2 h5, h6⟩))
    · exact Or.inr (Or.inr (Or.inr (Or.inl ⟨k1, lc, sc, xs, h1, h2, h3, h4, h5, fun x hx => VAL.up d x.1 x.2.1 (h6 x hx), h7⟩)))
    · exact Or.inr (Or.inr (Or.inr (Or.inr ⟨k1, hq, k, v, c1, h1, h2, h3, h4, VAL.up d v c1 h5, h6⟩)))
theorem VAL.le {P : Nat → Prop} {q : Bool} {σ : AS} {d e a : Nat} {cs : List Nat} (h : VAL P q σ d a cs) (hd : d ≤ e) : VAL P q σ e a cs := by
  obtain ⟨k, rfl⟩ : ∃ k, e = d + k := ⟨e - d, by omega⟩
  clear hd
  induction k with
  | zero => exact h
  | succ k ih => exact VAL.up _ _ _ ih
/-! the codes' value -/
def evS (f : Nat → List Int → List Int) (cs : List Nat) (st : List Int) : List Int := cs.foldl (fun st c => f c st) st
theorem evS_app (f : Nat → List Int → List Int) (cs ds : List Nat) (st : List Int) : evS f (cs ++ ds) st = evS f ds (evS f cs st) := by unfold evS; rw [List.foldl_append]
theorem evS_one (f : Nat → List Int → List Int) (c : Nat) (st : List Int) : evS f [c] st = f c st := rfl
theorem evalR_S (ev : Nat → Nat) : ∀ (cs : List Nat) (st : List Int), evalR ev cs st = evS (stepR ev) cs st
  | [], st => rfl
  | c :: cs, st => evalR_S ev cs (stepR ev c st)
theorem evalQ_S (pt : Nat → Int) (qf : Nat → Int → Int) : ∀ (cs : List Nat) (st : List Int), evalQ pt qf cs st = evS (stepQ pt qf) cs st
  | [], st => rfl
  | c :: cs, st => evalQ_S pt qf cs (stepQ pt qf c st)
def rawZ (g : Nat) (a b : Int) : Int := if g = 43 then a + b else if g = 45 then a - b else if g = 42 then a * b else floorZ a b
theorem rawZ_in {g : Nat} {a b : Int} (hg : sgOK g) (ha : mid a) (hb : mid b) : inZ (rawZ g a b) := by
  have h4 := opZ_mid (op := 4) ha hb
  unfold mid at *
  rcases hg with rfl | rfl | rfl | rfl
  · show inZ (a + b); constructor <;> omega
  · show inZ (a - b); constructor <;> omega
  · show inZ (a * b)
    have : (a * b).natAbs ≤ 1000000 * 1000000 := by rw [Int.natAbs_mul]; exact Nat.mul_le_mul (by omega) (by omega)
    constructor <;> omega
  · show inZ (opZ 4 a b)
    constructor <;> omega
theorem clip_mid {z : Int} (h : mid z) : clipZ z = z := by
  unfold mid at h
  unfold clipZ
  rw [if_neg (by omega), if_neg (by omega)]
theorem rawZ_op {g : Nat} {a b : Int} (hg : sgOK g) (ha : mid a) (hb : mid b) : clipZ (rawZ g a b) = opZ (opC g) a b := by
  have h4 := opZ_mid (op := 4) ha hb
  rcases hg with rfl | rfl | rfl | rfl
  · rfl
  · rfl
  · rfl
  · show clipZ (opZ 4 a b) = opZ 4 a b
    exact clip_mid h4
theorem opC_le {g : Nat} (hg : sgOK g) : 1 ≤ opC g ∧ opC g ≤ 4 := by
  rcases hg with rfl | rfl | rfl | rfl <;> decide
section VA_
variable (G : CX) (g : GX) (l : Launch) (d : Nat) (σ : AS)
theorem x_two (z : Int32) (k : Nat) (v w : Int64) (a b : Int) (hz : z = nI k) (hv : v = zL a) (hw : w = zL b) (hk : sgOK k) (ha : mid a) (hb : mid b) : MC G g l (d+2) mX10_two [iv z, jv v, jv w] σ (fun r t => r = some (jv (zL (rawZ k a b))) ∧ t = σ) := by
  subst hz; subst hv; subst hw
  have za := mid_in ha
  have zb := mid_in hb
  have z0 : inZ 0 := ⟨by omega, by omega⟩
  refine MC0 tX10_two rfl okX10_two rfl rfl rfl rfl (fun P => ?_)
  rcases hk with rfl | rfl | rfl | rfl
  · refine And.intro (fun h => absurd h (by decide)) (fun _ => And.intro (fun _ => ?_) (fun h => absurd rfl h))
    exact ⟨by rw [zL_add]; rfl, rfl⟩
  · refine And.intro (fun h => absurd h (by decide)) (fun _ => And.intro (fun h => absurd h (by decide)) (fun _ => And.intro (fun h => absurd h (by decide)) (fun _ => And.intro (fun _ => ?_) (fun h => absurd rfl h))))
    exact ⟨by rw [zL_sub]; rfl, rfl⟩
  · refine And.intro (fun _ => ?_) (fun h => absurd rfl h)
    exact ⟨by rw [zL_mul]; rfl, rfl⟩
  · refine And.intro (fun h => absurd h (by decide)) (fun _ => And.intro (fun h => absurd h (by decide)) (fun _ => And.intro (fun h => absurd h (by decide)) (fun _ => And.intro (fun h => absurd h (by decide)) (fun _ => ?_))))
    refine And.intro (fun h => ?_) (fun h => ?_)
    · have hb0 : b ≠ 0 := fun q => h ((lg_cmp_eq _ _).mpr ((zL_eq zb z0).mpr q))
      refine mcall (j_floorDiv G g l d σ _ _ a b rfl rfl ha hb hb0) (fun r s1 h9 => ?_)
      obtain ⟨rfl, e9⟩ := h9
      refine ⟨?_, e9⟩
      show some (jv (zL (a.fdiv b))) = some (jv (zL (floorZ a b)))
      unfold floorZ
      rw [if_neg hb0]
    · have hb0 : b = 0 := (zL_eq zb z0).mp ((lg_cmp_eq _ _).mp h)
      refine ⟨?_, rfl⟩
      show some (jv (lN 0)) = some (jv (zL (floorZ a b)))
      unfold floorZ
      rw [if_pos hb0]
      rfl
theorem j_check8r (i n : Nat) (r : AR) (h : i < n) (hn : n < 1000000) : MC G g l (d+1) mJ8_checkIndex [iv (nI i), iv (nI n), .inr (.inr r)] σ (fun r t => r = some (iv (nI i)) ∧ t = σ) := by
  refine MC0 tJ8_checkIndex rfl okJ8_checkIndex rfl rfl rfl rfl (fun P => ?_)
  have h0 : ¬ nI i < nI 0 := by rw [nI_ltI (by omega) (by omega)]; omega
  have h1 : nI i < nI n := by rw [nI_ltI (by omega) (by omega)]; exact h
  exact And.intro (fun q => absurd q h0) (fun _ => And.intro (fun _ => ⟨rfl, rfl⟩) (fun q => absurd h1 q))
theorem j_check6 (i n : Nat) (h : i < n) (hn : n < 1000000) : MC G g l (d+2) mJ6_checkIndex [iv (nI i), iv (nI n)] σ (fun r t => r = none ∧ t = σ) := by
  refine MC0 tJ6_checkIndex rfl okJ6_checkIndex rfl rfl rfl rfl (fun P => ?_)
  refine mcall (j_check8r G g l d σ i n _ h hn) (fun r s1 h9 => ?_)
  obtain ⟨rfl, e9⟩ := h9
  exact ⟨rfl, e9⟩
theorem l_charAt {Q : Nat → Prop} {a : Nat} {gs : List Nat} (h : SBD Q σ a gs) (z : Int32) (i x : Nat) (hz : z = nI i) (hx : gs[i]? = some x) : MC G g l (d+3) mJ14_charAt [rf a, iv z] σ (fun r t => r = some (iv (nI x)) ∧ t = σ) := by
  subst hz
  obtain ⟨b, cap, h⟩ := h
  obtain ⟨-, k1, k2, h3, h4, h5, h6, h7, -⟩ := h
  have hi : i < gs.length := (List.getElem?_eq_some_iff.mp hx).1
  obtain ⟨x1, x2⟩ := h7 i x hx
  refine MC1 tJ14_charAt [2, 5, 12, 16] rfl okJ14_charAt rfl rfl rfl rfl (fun P hP => ?_)
  refine hP _ _ _ _ ?_
  refine grd (b := isOb (kd true σ a) _) (by rw [k1]; rfl) ?_
  show P 2 [some (rf a), some (iv (nI i)), none, none, none] [iv (gI σ a 1)] σ
  rw [h3]
  refine hP _ _ _ _ ?_
  refine grd (b := isOb (kd true σ a) _) (by rw [k1]; rfl) ?_
  show P 5 [some (rf a), some (iv (nI i)), some (iv (nI 0)), none, none] [rw_ (gR true σ a 0)] σ
  rw [h5]
  refine hP _ _ _ _ ?_
  refine grd (b := isOb (kd true σ a) _) (by rw [k1]; rfl) ?_
  refine grd (b := Nat.ble 1 (kd true σ b).1 && Nat.ble (kd true σ b).1 10) (by rw [k2]; rfl) ?_
  show P 12 [some (rf a), some (iv (nI i)), some (iv (nI 0)), some (rf b), none] [iv (nI (kd true σ b).2 >>> (nI 0 &&& 31)), iv (gI σ a 3)] σ
  rw [k2, h4, show nI cap >>> (nI 0 &&& 31) = nI cap from by rw [show (nI 0 &&& 31 : Int32) = 0 from rfl]; exact Int32.shiftRight_zero]
  refine hP _ _ _ _ ?_
  refine mcall (j_minI G g l (d+1) σ _ _ gs.length cap rfl rfl (by omega) (by omega)) (fun r s1 h9 => ?_)
  obtain ⟨rfl, e9⟩ := h9
  subst e9
  show P 16 [some (rf a), some (iv (nI i)), some (iv (nI 0)), some (rf b), some (iv (nI (min gs.length cap)))] [iv (nI (min gs.length cap)), iv (nI i)] s1
  rw [Nat.min_eq_left h6.1]
  refine hP _ _ _ _ ?_
  refine mcall (j_check6 G g l d s1 i gs.length hi (by omega)) (fun r s2 h9 => ?_)
  obtain ⟨rfl, e9⟩ := h9
  subst e9
  refine And.intro (fun q => absurd rfl q) (fun _ => ?_)
  refine grd (b := Nat.beq (kd true s2 b).1 1 || Nat.beq (kd true s2 b).1 2) (by rw [k2]; rfl) ?_
  refine And.intro (show vp_in (nI i) (kd true s2 b).2 from by rw [k2]; exact vinN (by show i < cap; omega) (by show cap ≤ 1000000; omega)) ?_
  have hv : (((gI s2 b (nI i).toNatClampNeg &&& nI 255).toUInt32 % 65536).toInt32) = nI x := by
    rw [clN (by omega), x1]
    rcases x2 with rfl | rfl | rfl | rfl <;> rfl
  have hn : NarOK 3 (nI x) := by rcases x2 with rfl | rfl | rfl | rfl <;> exact ⟨rfl, rfl⟩
  show NarOK 3 (((gI s2 b (nI i).toNatClampNeg &&& nI 255).toUInt32 % 65536).toInt32) ∧ some (iv (((gI s2 b (nI i).toNatClampNeg &&& nI 255).toUInt32 % 65536).toInt32)) = some (iv (nI x)) ∧ s2 = s2
  rw [hv]
  exact ⟨hn, rfl, rfl⟩
theorem l_charAt15 {Q : Nat → Prop} {a : Nat} {gs : List Nat} (h : SBD Q σ a gs) (z : Int32) (i x : Nat) (hz : z = nI i) (hx : gs[i]? = some x) : MC G g l (d+4) mJ15_charAt [rf a, iv z] σ (fun r t => r = some (iv (nI x)) ∧ t = σ) := by
  have k1 : kd true σ a = (0, 21) := by obtain ⟨b, cap, h⟩ := h; exact h.2.1
  have hx2 : sgOK x := by obtain ⟨b, cap, h⟩ := h; exact (h.2.2.2.2.2.2.2.1 i x hx).2
  refine MC0 tJ15_charAt rfl okJ15_charAt rfl rfl rfl rfl (fun P => ?_)
  refine grd (b := supOK (kd true σ a) _ && _) (by rw [k1]; rfl) ?_
  refine mcall (l_charAt G g l d σ h z i x hz hx) (fun r s1 h9 => ?_)
  obtain ⟨rfl, e9⟩ := h9
  exact ⟨by rcases hx2 with rfl | rfl | rfl | rfl <;> exact ⟨rfl, rfl⟩, rfl, e9⟩
end VA_
