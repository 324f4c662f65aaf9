/-! acts, in the component -/
def XInc (k : Nat) (σ t : AS) : Prop := gI t 15 k = gI σ 15 k + nI 1 ∧ ∀ j, j ≠ k → gI t 15 j = gI σ 15 j
theorem XInc.mk (k : Nat) (σ : AS) : XInc k σ (sI σ 15 k (gI σ 15 k + nI 1)) := ⟨by rw [gI_sI, if_pos ⟨rfl, rfl⟩], fun j hj => by rw [gI_sI, if_neg (fun q => hj q.2)]⟩
theorem XInc.pre {k : Nat} {σ s t : AS} (h : XInc k s t) (he : ∀ j, gI s 15 j = gI σ 15 j) : XInc k σ t := ⟨by rw [h.1, he], fun j hj => by rw [h.2 j hj, he]⟩
def offK (ids : List Nat) : Bool := ids.all (fun a => Nat.blt a 77 || Nat.blt 177 a)
theorem XSt.ys {fs ids : List Nat} {T : Twn} {x : Nws} {c : Nat} {σ s : AS} (h : XSt T x c σ) (hS : yS fs ids σ s) (hz : 268 ≤ zn σ) (h1 : ∀ a, c ≤ a → a ≤ c + 4 → a ∉ ids) (hc : c ≠ 0) (hc2 : c + 4 < 268) : XSt T x c s := by
  have e : ∀ a k, c ≤ a → a ≤ c + 4 → gI s a k = gI σ a k := fun a k ha hb => (hS.1.1 a k (by omega) (h1 a ha hb) (fun z => by omega)).1
  refine ⟨?_, fun s hs => ?_, fun w hw => ?_⟩
  · rw [e c 0 (by omega) (by omega)]; exact h.1
  · rw [e (c+1) s (by omega) (by omega)]; exact h.2.1 s hs
  · rw [e (c+2) w (by omega) (by omega), e (c+3) w (by omega) (by omega), e (c+4) w (by omega) (by omega)]; exact h.2.2 w hw
theorem XKp.ys {fs ids : List Nat} {T : Twn} {ks : List Nws} {σ s : AS} (h : XKp T ks σ) (hS : yS fs ids σ s) (hz : 268 ≤ zn σ) (h1 : offK ids = true) (h0 : (ids.contains 0 || fs.contains 28) = false) : XKp T ks s := by
  simp only [Bool.or_eq_false_iff] at h0
  obtain ⟨k1, k2, k3, π, k4, k5, k6⟩ := h
  have hn : ∀ a, 77 ≤ a → a ≤ 177 → a ∉ ids := by
    intro a ha hb q
    have := List.all_eq_true.mp h1 a q
    rw [Bool.or_eq_true] at this
    rcases this with z | z
    · have := Nat.le_of_ble_eq_true z; omega
    · have := Nat.le_of_ble_eq_true z; omega
  have e : ∀ a k, 77 ≤ a → a ≤ 177 → gI s a k = gI σ a k ∧ gL s a k = gL σ a k ∧ gR true s a k = gR true σ a k := fun a k ha hb => hS.1.1 a k (by omega) (hn a ha hb) (fun z => by omega)
  refine ⟨k1, ?_, fun i hi => ?_, π, fun j hj => ⟨(k4 j hj).1, ((e 77 j (by omega) (by omega)).2.2).trans (k4 j hj).2⟩, k5, fun j x hx => ?_⟩
  · rw [(hS.i hz 0 28 rfl h0.1 (by rw [h0.2]; rfl)).1]; exact k2
  · obtain ⟨h1, h2, h3, h4, h5, r1, r2, r3, r4⟩ := k3 i hi
    exact ⟨(hS.1.2.1 _ (by omega)).trans h1, (hS.1.2.1 _ (by omega)).trans h2, (hS.1.2.1 _ (by omega)).trans h3, (hS.1.2.1 _ (by omega)).trans h4, (hS.1.2.1 _ (by omega)).trans h5, ((e _ _ (by omega) (by omega)).2.2).trans r1, ((e _ _ (by omega) (by omega)).2.2).trans r2, ((e _ _ (by omega) (by omega)).2.2).trans r3, ((e _ _ (by omega) (by omega)).2.2).trans r4⟩
  · have hj : j < ks.length := (List.getElem?_eq_some_iff.mp hx).1
    have hp := (k4 (ks.length - 1 - j) (by omega)).1
    exact ⟨(k6 j x hx).1, (k6 j x hx).2.ys hS hz (fun a ha hb => hn a (by omega) (by omega)) (by omega) (by omega)⟩
theorem XNw.hr {T : Twn} {n : Nws} {σ : AS} (h : XNw T n σ) (v : Nat) : XNw T (setHr n v) (sI σ 16 0 (nI v)) := by
  refine ⟨rfl, fun s hs => ?_, fun w hw => ?_⟩
  · rw [gI_sI, if_neg (by omega)]; exact h.2.1 s hs
  · rw [gI_sI, if_neg (by omega), gI_sI, if_neg (by omega), gI_sI, if_neg (by omega)]; exact h.2.2 w hw
theorem XNw.shf {T : Twn} {n : Nws} {σ : AS} (h : XNw T n σ) (s v : Nat) : XNw T (setSh n s v) (sI σ 17 s (nI v)) := by
  refine ⟨by rw [gI_sI, if_neg (by omega)]; exact h.1, fun j hj => ?_, fun w hw => ?_⟩
  · rw [gI_sI]
    by_cases e : j = s
    · rw [if_pos ⟨rfl, e⟩, e]; unfold setSh Nsh; simp
    · rw [if_neg (fun z => e z.2), h.2.1 j hj]; unfold setSh Nsh; simp [e]
  · rw [gI_sI, if_neg (by omega), gI_sI, if_neg (by omega), gI_sI, if_neg (by omega)]; exact h.2.2 w hw
section AD_
variable (G : CX) (g : GX) (l : Launch) (d : Nat) (σ : AS)
set_option maxHeartbeats 1000000 in
theorem x_undo (T : Twn) (ks : List Nws) (hT : TOK T) (hK : XKp T ks σ) (hz : 268 ≤ zn σ) : MC G g l (d+2) mX0_undo [tX] σ (fun r t => match ks with
    | [] => r = some (iv (nI 0)) ∧ xS [] [15] σ t ∧ XInc 3 σ t
    | x :: ks' => r = some (iv (nI 1)) ∧ xS [28] [16, 17, 18, 19, 20] σ t ∧ XNw T x t ∧ XKp T ks' t) := by
  obtain ⟨k1, k2, k3, π, k4, k5, k6⟩ := hK
  cases ks with
  | nil =>
    refine MC0 tX0_undo rfl okX0_undo rfl rfl rfl rfl (fun P => And.intro (fun q => absurd k2 q) (fun _ => ?_))
    refine mcall (x_refuses G g l d σ _ 3 rfl (by omega)) (fun r s1 h9 => ?_)
    obtain ⟨rfl, e9⟩ := h9
    subst e9
    refine And.intro (fun _ => ⟨nar0, rfl, xS.rf.a rfl, XInc.mk 3 σ⟩) (fun q => absurd (show - nI 1 < nI 0 by decide) q)
  | cons x ks =>
    have k1 : ks.length + 1 ≤ 20 := k1
    have k2 : gI σ 0 28 = nI (ks.length + 1) := k2
    refine MC1 tX0_undo [23, 24] rfl okX0_undo rfl rfl rfl rfl (fun P hP => ?_)
    refine hP _ _ _ _ (And.intro (fun _ => ?_) (fun q => absurd (show gI σ 0 28 = nI 0 from q) (by rw [k2, nI_eq (by omega) (by omega)]; omega)))
    have e28 : gI σ 0 28 - nI 1 = nI ks.length := by rw [k2, nI_s1 _ _ (by omega)]; rfl
    generalize hs1 : sI σ 0 28 (gI σ 0 28 - nI 1) = s1
    show P 23 [some tX] [iv (gI (sI σ 0 28 (gI σ 0 28 - nI 1)) 0 28), rf 77, rf 16] (sI σ 0 28 (gI σ 0 28 - nI 1))
    rw [hs1]
    have S1 : xS [28] [16, 17, 18, 19, 20] σ s1 := by rw [← hs1]; exact xS.rf.f rfl
    have g28 : gI s1 0 28 = nI ks.length := by rw [← hs1, gI_sI, if_pos ⟨rfl, rfl⟩, e28]
    obtain ⟨p1, p2⟩ := k4 ks.length (by omega)
    have hx := k6 0 x rfl
    have hx2 : XSt T x (78 + 5 * π ks.length) σ := hx.2
    have hX1 : XSt T x (78 + 5 * π ks.length) s1 := hx2.ys S1.y hz (fun a ha hb q => by simp at q; omega) (by omega) (by omega)
    refine hP _ _ _ _ (s_aal rfl g28 (by omega) ((gR_of S1.2 _ _).trans p2) (hP _ _ _ _ ?_))
    refine sv1 (r := some (.inl 16)) rfl rfl rfl rfl rfl (mcall (x_copy G g l d s1 T hT x 16 (78 + 5 * π ks.length) (StC16 s1) ((k3 _ p1).of S1.2) (by omega) hX1) (fun r s2 h9 => ?_))
    obtain ⟨rfl, c1, c2⟩ := h9
    have S2 : xS [28] [16, 17, 18, 19, 20] s1 s2 := ⟨fun a k ha _ => ⟨c1.1 a k (fun z => ha (by
      have : a = 16 ∨ a = 17 ∨ a = 18 ∨ a = 19 ∨ a = 20 := by omega
      rcases this with rfl | rfl | rfl | rfl | rfl <;> simp)), c1.2.1 a k⟩, c1.2.2⟩
    have SS := S1.tr S2
    refine ⟨nar1, rfl, SS, c2, by omega, ?_, fun i hi => (k3 i hi).of SS.2, π, fun j hj => ⟨(k4 j hj).1, (gR_of SS.2 _ _).trans (k4 j hj).2⟩, k5, fun j y hy => ?_⟩
    · rw [c1.1 0 28 (by omega)]; exact g28
    · have hj : j < ks.length := (List.getElem?_eq_some_iff.mp hy).1
      obtain ⟨a1, a2⟩ := k6 (j+1) y hy
      have hp := (k4 (ks.length - 1 - j) (by omega)).1
      have a2 : XSt T y (78 + 5 * π (ks.length + 1 - 1 - (j + 1))) σ := a2
      rw [show ks.length + 1 - 1 - (j + 1) = ks.length - 1 - j by omega] at a2
      exact ⟨a1, a2.ys SS.y hz (fun a ha hb q => by simp at q; omega) (by omega) (by omega)⟩
theorem x_seed (x : Int32) : MC G g l (d+2) mX0_seed [tX, iv x] σ (fun r t => if 0 ≤ x then (r = some (iv (nI 1)) ∧ xS [29] [] σ t ∧ gL t 0 29 = x.toInt64) else (r = some (iv (nI 0)) ∧ xS [] [15] σ t ∧ XInc 4 σ t)) := by
  refine MC0 tX0_seed rfl okX0_seed rfl rfl rfl rfl (fun P => ?_)
  refine And.intro (fun q => ⟨nar1, ?_⟩) (fun q => ?_)
  · have q : 0 ≤ x := q
    show if 0 ≤ x then _ else _
    rw [if_pos q]
    exact ⟨rfl, xS.rf.fl rfl, rfl⟩
  · have q : ¬ 0 ≤ x := q
    refine mcall (x_refuses G g l d σ _ 4 rfl (by omega)) (fun r s1 h9 => ?_)
    obtain ⟨rfl, e9⟩ := h9
    subst e9
    refine And.intro (fun _ => ⟨nar0, ?_⟩) (fun q => absurd (show - nI 1 < nI 0 by decide) q)
    show if 0 ≤ x then _ else _
    rw [if_neg q]
    exact ⟨rfl, xS.rf.a rfl, XInc.mk 4 σ⟩
theorem x_draw (x : Int32) (m sd : Nat) (hx : x = nI m) (hm : 1 ≤ m) (hm2 : m ≤ 1000) (hsd : gL σ 0 29 = lN sd) (hlt : sd < 2147483648) : MC G g l (d+1) mX0_draw [tX, iv x] σ (fun r t => r = some (iv (nI (drawN sd / 64 % m))) ∧ xS [29] [] σ t ∧ gL t 0 29 = lN (drawN sd)) := by
  subst hx
  have hd := drawN_lt sd
  have hd2 : drawN sd / 64 ≤ drawN sd := Nat.div_le_self _ _
  have e1 : lN 1103515245 * gL σ 0 29 + lN 12345 - (lN 1103515245 * gL σ 0 29 + lN 12345) / lN 2147483648 * lN 2147483648 = lN (drawN sd) := by
    rw [hsd, lN_mul, lN_add, pk_lRem (by omega) (by omega) (by omega)]
    rfl
  refine MC0 tX0_draw rfl okX0_draw rfl rfl rfl rfl (fun P => ?_)
  refine And.intro (by decide) (And.intro (by decide) (And.intro ?_ ⟨?_, xS.rf.fl rfl, e1⟩))
  · show ¬ (nI m).toInt64 = 0
    rw [nI_l (by omega)]
    intro e
    have := (lN_eq (a := m) (b := 0) (by omega) (by omega)).mp e
    omega
  · show some (Sum.inl ((lN 1103515245 * gL σ 0 29 + lN 12345 - (lN 1103515245 * gL σ 0 29 + lN 12345) / lN 2147483648 * lN 2147483648) / lN 64 - (lN 1103515245 * gL σ 0 29 + lN 12345 - (lN 1103515245 * gL σ 0 29 + lN 12345) / lN 2147483648 * lN 2147483648) / lN 64 / (nI m).toInt64 * (nI m).toInt64).toInt32) = _
    rw [e1, nI_l (by omega), pk_lDiv (by omega) (by omega) (by omega), pk_lRem (by omega) (by omega) (by omega), lN_i]
/-- floorMod of an int that may be below nothing -/
theorem j_floorMod (x y : Int32) (z : Int) (m : Nat) (hx : x = zI z) (hy : y = nI m) (hm : 1 ≤ m) (hm2 : m ≤ 1000) (hz : -100000 ≤ z ∧ z ≤ 100000) : MC G g l (d+1) mJ12_floorMod [iv x, iv y] σ (fun r t => r = some (iv (zI (z % (m : Int)))) ∧ t = σ) := by
  subst hx; subst hy
  have tz : (zI z).toInt = z := zI_toInt (by omega) (by omega)
  have tm : (nI m).toInt = (m : Int) := nI_toInt (by omega)
  have hmod : (zI z - zI z / nI m * nI m) = zI (z.tmod m) := by
    have hq : zI z / nI m = zI (z.tdiv m) := by
      apply Int32.toInt_inj.mp
      have h1 := Int.natAbs_tdiv_le_natAbs z m
      rw [zI_toInt (by omega) (by omega), Int32.toInt_div, tz, tm]
      rw [Int.bmod_eq_of_le (by omega) (by omega)]
    rw [hq, nI_zI (by omega)]
    have e : zI (z.tdiv m) * zI (m : Int) = zI (z.tdiv m * m) := (Int32.ofInt_mul _ _).symm
    rw [e, zI_sub]
    congr 1
    have := Int.mul_tdiv_add_tmod z m
    rw [Int.mul_comm] at this
    omega
  have hne : ¬ nI m = 0 := nI_ne0 (by omega) (by omega)
  have ht : (z.tmod m).natAbs < m := by
    rw [Int.natAbs_tmod]
    exact Nat.mod_lt _ (by show 0 < (m : Int).natAbs; omega)
  have tt : (zI (z.tmod m)).toInt = z.tmod m := zI_toInt (by omega) (by omega)
  have hx9 : (nI 0 ≤ zI z ^^^ nI m) ↔ 0 ≤ z := by
    have h2 := xorI_neg (zI z) (nI m)
    rw [tz, tm, decide_eq_false (by omega : ¬ (m : Int) < 0)] at h2
    rw [Int32.le_iff_toInt_le, show (nI 0).toInt = 0 from rfl]
    by_cases q1 : z < 0 <;> by_cases q3 : (zI z ^^^ nI m).toInt < 0 <;> simp [q1, q3] at h2 ⊢ <;> omega
  have hem : z % (m : Int) = if z.tmod m < 0 then z.tmod m + m else z.tmod m := by
    have e1 := Int.emod_add_mul_ediv z m
    have e2 := Int.emod_nonneg z (show (m : Int) ≠ 0 by omega)
    have e3 := Int.emod_lt_of_pos z (show (0 : Int) < m by omega)
    rw [Int.tmod_eq_emod]
    split <;> split <;> (try simp) <;> omega
  have hsg : 0 ≤ z → 0 ≤ z.tmod m := fun h => Int.tmod_nonneg _ h
  have hsg2 : z < 0 → z.tmod m ≤ 0 := fun h => by
    have := Int.tmod_nonneg (a := -z) m (by omega)
    rw [Int.neg_tmod] at this
    omega
  refine MC0F tJ12_floorMod rfl okJ12_floorMod rfl pf_floorMod rfl rfl (fun P => And.intro hne (And.intro (fun h => ?_) (fun h => And.intro (fun h2 => ?_) (fun h2 => ?_))))
  · have h := hx9.mp h
    have := hsg h
    refine ⟨?_, rfl⟩
    show some (iv (zI z - zI z / nI m * nI m)) = _
    rw [hmod, hem, if_neg (by omega)]
  · have h2 : zI z - zI z / nI m * nI m = nI 0 := h2
    rw [hmod] at h2
    have h3 := congrArg Int32.toInt h2
    rw [tt, show (nI 0).toInt = 0 from rfl] at h3
    refine ⟨?_, rfl⟩
    show some (iv (zI z - zI z / nI m * nI m)) = _
    rw [hmod, hem, if_neg (by omega)]
  · have h : ¬ 0 ≤ z := fun q => h (hx9.mpr q)
    have h2 : ¬ zI z - zI z / nI m * nI m = nI 0 := h2
    rw [hmod] at h2
    have h3 : z.tmod m ≠ 0 := fun e => h2 (by rw [e]; rfl)
    have := hsg2 (by omega)
    refine ⟨?_, rfl⟩
    show some (iv (zI z - zI z / nI m * nI m + nI m)) = _
    rw [hmod, nI_zI (by omega), zI_add, hem, if_pos (by omega)]
end AD_
