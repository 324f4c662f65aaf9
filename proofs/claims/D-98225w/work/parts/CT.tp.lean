/-! bytes: signed on the component's tape (8) and in its image (199) -/
theorem bS_and {x : Nat} (h : x < 256) : bS x &&& nI 255 = nI x := by
  have h1 : ∀ x : Fin 256, (bS x.val).toBitVec.toNat % 2 ^ 8 = x.val := by decide +kernel
  rw [pk_and _ 8 rfl, h1 ⟨x, h⟩]
theorem bS_of (v : Int32) : v.toInt8.toInt32 = bS (v.toBitVec.toNat % 2 ^ 8) := by
  have e : v.toInt8 = (nI (v.toBitVec.toNat % 2 ^ 8)).toInt8 := by
    have h := pk_and v (m := nI 255) 8 rfl
    rw [← h]
    apply Int8.toBitVec_inj.mp
    show v.toBitVec.signExtend 8 = (v &&& nI 255).toBitVec.signExtend 8
    rw [BitVec.signExtend_eq_setWidth_of_le _ (by omega), BitVec.signExtend_eq_setWidth_of_le _ (by omega), Int32.toBitVec_and]
    apply BitVec.eq_of_toNat_eq
    rw [BitVec.toNat_setWidth, BitVec.toNat_setWidth, BitVec.toNat_and, show (nI 255).toBitVec.toNat = 2 ^ 8 - 1 from rfl, Nat.and_two_pow_sub_one_eq_mod]
    omega
  unfold bS
  rw [← e]
theorem nar_b2 (v : Int32) : vp_nar (tyOf 2) v.toInt8.toInt32 = v.toInt8.toInt32 := by
  show v.toInt8.toInt32.toInt8.toInt32 = _
  rw [Int8.toInt8_toInt32]
theorem nI_low {n : Nat} (h : n < 2147483648) : (nI n).toInt8.toInt32 = bS (n % 256) := by
  rw [bS_of]
  congr 1
  have : (nI n).toBitVec.toNat = n := by
    show (BitVec.ofNat 32 n).toNat = n
    rw [BitVec.toNat_ofNat]
    omega
  rw [this]
theorem or8 {a b : Nat} (ha : a < 256) (hb : b < 256) : nI a <<< (nI 8 &&& 31) ||| nI b = nI (256 * a + b) := by
  rw [pk_shlN (n := a) _ 8 rfl (by omega)]
  have tb : ∀ n, n < 2147483648 → (nI n).toBitVec.toNat = n := fun n hn => by
    show (BitVec.ofNat 32 n).toNat = n
    rw [BitVec.toNat_ofNat]
    omega
  apply Int32.toBitVec_inj.mp
  apply BitVec.eq_of_toNat_eq
  rw [Int32.toBitVec_or, BitVec.toNat_or, tb _ (by omega), tb _ (by omega), tb _ (by omega)]
  have := Nat.shiftLeft_add_eq_or_of_lt (show b < 2 ^ 8 from hb) a
  rw [Nat.shiftLeft_eq] at this
  rw [← this]
  omega
theorem XTb.at {tp : List Nat} {σ : AS} (h : XTb tp σ) {k : Nat} (hk : k < tp.length) : gI σ 8 k = bS tp[k]! ∧ tp[k]! < 256 := h.2 k _ (by rw [List.getElem?_eq_getElem hk, getElem!_pos tp k hk])
theorem XTb.xs {tp : List Nat} {σ t : AS} {fs ids : List Nat} (h : XTb tp σ) (hS : xS fs ids σ t) (h1 : ids.contains 8 = false) : XTb tp t := ⟨h.1, fun k x e => by rw [hS.ia 8 h1 rfl]; exact h.2 k x e⟩
theorem XTb.ys {tp : List Nat} {σ t : AS} {fs ids : List Nat} (h : XTb tp σ) (hS : yS fs ids σ t) (hz : 268 ≤ zn σ) (h1 : ids.contains 8 = false) : XTb tp t := ⟨h.1, fun k x e => by rw [(hS.i hz 8 k rfl h1 rfl).1]; exact h.2 k x e⟩
theorem XTp.push {tp : List Nat} {σ : AS} (h : XTp tp σ) (hl : tp.length < 1600) (b : Nat) (hb : b < 256) : XTp (tp ++ [b]) (sI (sI σ 0 2 (nI (tp.length + 1))) 8 tp.length (bS b)) := by
  refine ⟨⟨by rw [List.length_append, List.length_singleton]; omega, fun k x e => ?_⟩, by rw [gI_sI, if_neg (by omega), gI_sI, if_pos ⟨rfl, rfl⟩, List.length_append]; rfl⟩
  rw [gI_sI]
  rcases Nat.lt_trichotomy k tp.length with q | q | q
  · rw [List.getElem?_append_left q] at e
    rw [if_neg (by omega), gI_sI, if_neg (by omega)]
    exact h.1.2 k x e
  · subst q
    rw [List.getElem?_append_right (Nat.le_refl _), Nat.sub_self] at e
    have e : some b = some x := e
    cases e
    exact ⟨by rw [if_pos ⟨rfl, rfl⟩], hb⟩
  · rw [List.getElem?_eq_none (by rw [List.length_append, List.length_singleton]; omega)] at e
    cases e
section TP_
variable (G : CX) (g : GX) (l : Launch) (d : Nat) (σ : AS)
theorem x_put (tp : List Nat) (h : XTp tp σ) (hl : tp.length + 4 ≤ 1600) (v : Int32) : MC G g l (d+1) mX0_put [tX, iv v] σ (fun r t => r = none ∧ xS [2] [8] σ t ∧ XTp (tp ++ [byt v 0, byt v 1, byt v 2, byt v 3]) t) := by
  refine MC1 tX0_put [2] rfl okX0_put rfl rfl rfl rfl (fun P hP => ?_)
  have key : ∀ (m j : Nat) (x : Int32) (τ : AS), j + m = 4 → x = nI (8 * m) - nI 8 → xS [2] [8] σ τ → XTp (tp ++ (([byt v 0, byt v 1, byt v 2, byt v 3] : List Nat).take j)) τ → P 2 [some tX, some (iv v), some (iv x)] [] τ := by
    intro m
    induction m with
    | zero =>
      intro j x τ hj hx hS hT
      subst hx
      have ej : j = 4 := by omega
      subst ej
      refine hP _ _ _ _ (And.intro (fun _ => ⟨rfl, hS, hT⟩) (fun q => absurd (show nI (8 * 0) - nI 8 < nI 0 by decide) q))
    | succ m ih =>
      intro j x τ hj hx hS hT
      have hx : x = nI (8 * m) := by rw [hx, nI_s1 _ _ (by omega)]; congr 1
      subst hx
      have hlen : (tp ++ (([byt v 0, byt v 1, byt v 2, byt v 3] : List Nat).take j)).length = tp.length + j := by rw [List.length_append, List.length_take]; simp; omega
      have ht := hT.2
      rw [hlen] at ht
      have c8 : (gI τ 0 2).toNatClampNeg = tp.length + j := by rw [ht, clN (by omega)]
      refine hP _ _ _ _ (And.intro (fun q => absurd q (by rw [show (nI (8 * m) < nI 0) = (nI (8*m) < nI 0) from rfl, nI_ltI (by omega) (by omega)]; omega)) (fun _ => And.intro (show vp_in (gI τ 0 2) 1600 by rw [ht]; exact vinN (by omega) (by decide)) ?_))
      show P 2 [some tX, some (iv v), some (iv (nI (8 * m) - nI 8))] [] (sI (sI τ 0 2 (gI τ 0 2 + nI 1)) 8 (gI τ 0 2).toNatClampNeg (vp_nar (tyOf 2) ((v >>> (nI (8 * m) &&& 31)).toInt8.toInt32)))
      rw [c8, ht, nI_add, nar_b2, bS_of]
      have em : m = 3 - j := by omega
      have eb : (v >>> (nI (8 * m) &&& 31)).toBitVec.toNat % 2 ^ 8 = byt v j := by rw [em]; rfl
      rw [eb]
      have hp := hT.push (by omega) (byt v j) (byt_lt v j)
      rw [hlen] at hp
      refine ih (j+1) _ _ (by omega) rfl ((hS.f rfl).a rfl) ?_
      have etk : ([byt v 0, byt v 1, byt v 2, byt v 3] : List Nat).take (j+1) = ([byt v 0, byt v 1, byt v 2, byt v 3] : List Nat).take j ++ [byt v j] := by
        have : j = 0 ∨ j = 1 ∨ j = 2 ∨ j = 3 := by omega
        rcases this with rfl | rfl | rfl | rfl <;> rfl
      rw [etk, ← List.append_assoc]
      exact hp
  refine hP _ _ _ _ ?_
  exact key 4 0 _ σ (by omega) (by decide) xS.rf (by simpa using h)
theorem feed5_eq (a b c e f : Int32) : feed5 a b c e f = [byt a 0, byt a 1, byt a 2, byt a 3] ++ [byt b 0, byt b 1, byt b 2, byt b 3] ++ [byt c 0, byt c 1, byt c 2, byt c 3] ++ [byt e 0, byt e 1, byt e 2, byt e 3] ++ [byt f 0, byt f 1, byt f 2, byt f 3] := rfl
theorem x_feed (tp : List Nat) (h : XTp tp σ) (a b c e f : Int32) : MC G g l (d+2) mX0_feed [tX, iv a, iv b, iv c, iv e, iv f] σ (fun r t => if tp.length + 20 ≤ 1600 then (r = some (iv (nI (tp.length + 20))) ∧ xS [2] [8] σ t ∧ XTp (tp ++ feed5 a b c e f) t) else (r = some (iv (- nI 1)) ∧ xS [] [15] σ t ∧ XInc 0 σ t)) := by
  have hl := h.1.1
  refine MC0 tX0_feed rfl okX0_feed rfl rfl rfl rfl (fun P => And.intro (fun q => ?_) (fun q => ?_))
  · have q : gI σ 0 2 + nI 20 ≤ nI 1600 := q
    rw [h.2, nI_add, nI_leI (by omega) (by omega)] at q
    refine mcall (x_put G g l d σ tp h (by omega) a) (fun r s1 h9 => ?_)
    obtain ⟨rfl, S1, T1⟩ := h9
    refine mcall (x_put G g l d s1 _ T1 (by simp; omega) b) (fun r s2 h9 => ?_)
    obtain ⟨rfl, S2, T2⟩ := h9
    refine mcall (x_put G g l d s2 _ T2 (by simp; omega) c) (fun r s3 h9 => ?_)
    obtain ⟨rfl, S3, T3⟩ := h9
    refine mcall (x_put G g l d s3 _ T3 (by simp; omega) e) (fun r s4 h9 => ?_)
    obtain ⟨rfl, S4, T4⟩ := h9
    refine mcall (x_put G g l d s4 _ T4 (by simp; omega) f) (fun r s5 h9 => ?_)
    obtain ⟨rfl, S5, T5⟩ := h9
    show if tp.length + 20 ≤ 1600 then _ else _
    rw [if_pos q]
    have T5 : XTp (tp ++ feed5 a b c e f) s5 := by
      rw [feed5_eq]
      simpa [List.append_assoc] using T5
    refine ⟨?_, (((S1.tr S2).tr S3).tr S4).tr S5, T5⟩
    show some (iv (gI s5 0 2)) = _
    rw [T5.2, List.length_append]
    rfl
  · have q : ¬ gI σ 0 2 + nI 20 ≤ nI 1600 := q
    rw [h.2, nI_add, nI_leI (by omega) (by omega)] at q
    refine mcall (x_refuses G g l d σ _ 0 rfl (by omega)) (fun r s1 h9 => ?_)
    obtain ⟨rfl, e9⟩ := h9
    subst e9
    show if tp.length + 20 ≤ 1600 then _ else _
    rw [if_neg q]
    exact ⟨rfl, xS.rf.a rfl, XInc.mk 0 σ⟩
theorem x_taken0 (tp : List Nat) (h : XTp tp σ) : MC G g l (d+1) mX0_taken [tX] σ (fun r t => r = some (iv (nI tp.length)) ∧ xS [2] [] σ t ∧ XTp [] t ∧ XTb tp t) := by
  refine MC0 tX0_taken rfl okX0_taken rfl rfl rfl rfl (fun P => ⟨?_, xS.rf.f rfl, ⟨⟨by simp, fun k x e => by simp at e⟩, by rw [gI_sI, if_pos ⟨rfl, rfl⟩]; rfl⟩, ?_⟩)
  · show some (iv (gI σ 0 2)) = _
    rw [h.2]
  · exact h.1.xs (xS.f (fs := [2]) (ids := []) xS.rf rfl) rfl
theorem x_byteAt0 (tp : List Nat) (h : XTb tp σ) (x : Int32) (k : Nat) (hx : x = nI k) (hk : k < tp.length) : MC G g l (d+1) mX0_byteAt [tX, iv x] σ (fun r t => r = some (iv (nI tp[k]!)) ∧ t = σ) := by
  subst hx
  have hl := h.1
  obtain ⟨a1, a2⟩ := h.at hk
  refine MC0 tX0_byteAt rfl okX0_byteAt rfl rfl rfl rfl (fun P => And.intro (show vp_in (nI k) 1600 from vinN (by omega) (by decide)) ⟨?_, rfl⟩)
  show some (iv (gI σ 8 (nI k).toNatClampNeg &&& nI 255)) = _
  rw [clN (by omega), a1, bS_and a2]
theorem x_check8 (tp : List Nat) (h : XTb tp σ) (x : Int32) (m : Nat) (hx : x = nI m) (hm : m ≤ tp.length) : MC G g l (d+1) mX0_check [.inr (.inr (some (.inl 8))), iv x] σ (fun r t => r = some (iv (nI (chk (tp.take m)))) ∧ t = σ) := by
  subst hx
  have hl := h.1
  refine MC1 tX0_check [4] rfl okX0_check rfl rfl rfl rfl (fun P hP => ?_)
  have key : ∀ (j k : Nat) (c : Nat), k + j = m → c = chk (tp.take k) → c ≤ 250 → P 4 [some (rf 8), some (iv (nI m)), some (iv (nI c)), some (iv (nI k))] [] σ := by
    intro j
    induction j with
    | zero =>
      intro k c hk hc hc9
      have ek : k = m := by omega
      subst ek
      refine hP _ _ _ _ (And.intro (fun _ => ⟨by rw [hc], rfl⟩) (fun q => absurd (Int32.le_refl _) q))
    | succ j ih =>
      intro k c hk hc hc9
      have hkl : k < tp.length := by omega
      obtain ⟨a1, a2⟩ := h.at hkl
      refine hP _ _ _ _ (And.intro (fun q => absurd q (nI_ge (by omega) (by omega))) (fun _ => And.intro (show vp_in (nI k) 1600 from vinN (by omega) (by decide)) (And.intro (by decide) ?_)))
      show P 4 [some (rf 8), some (iv (nI m)), some (iv (nI 3 * nI c + (gI σ 8 (nI k).toNatClampNeg &&& nI 255) - (nI 3 * nI c + (gI σ 8 (nI k).toNatClampNeg &&& nI 255)) / nI 251 * nI 251)), some (iv (nI k + nI 1))] [] σ
      rw [clN (by omega), a1, bS_and a2, pk_mul, nI_add, pk_rem (by omega) (by omega) (by omega), nI_add]
      have e : (tp.take (k+1)) = tp.take k ++ [tp[k]!] := by
        rw [List.take_succ, List.getElem?_eq_getElem hkl, getElem!_pos tp k hkl]
        rfl
      refine ih (k+1) _ (by omega) ?_ ?_
      · rw [e]
        unfold chk
        rw [List.foldl_append, hc]
        rfl
      · have := Nat.mod_lt (3 * c + tp[k]!) (show 251 > 0 by omega)
        omega
  refine hP _ _ _ _ ?_
  exact key m 0 163 (by omega) rfl (by omega)
theorem x_check199 (tp : List Nat) (hl : tp.length ≤ 39) (h : ∀ (k x : Nat), tp[k]? = some x → gI σ 199 k = bS x ∧ x < 256) (x : Int32) (m : Nat) (hx : x = nI m) (hm : m ≤ tp.length) : MC G g l (d+1) mX0_check [.inr (.inr (some (.inl 199))), iv x] σ (fun r t => r = some (iv (nI (chk (tp.take m)))) ∧ t = σ) := by
  subst hx
  refine MC1 tX0_check [4] rfl okX0_check rfl rfl rfl rfl (fun P hP => ?_)
  have key : ∀ (j k : Nat) (c : Nat), k + j = m → c = chk (tp.take k) → c ≤ 250 → P 4 [some (rf 199), some (iv (nI m)), some (iv (nI c)), some (iv (nI k))] [] σ := by
    intro j
    induction j with
    | zero =>
      intro k c hk hc hc9
      have ek : k = m := by omega
      subst ek
      refine hP _ _ _ _ (And.intro (fun _ => ⟨by rw [hc], rfl⟩) (fun q => absurd (Int32.le_refl _) q))
    | succ j ih =>
      intro k c hk hc hc9
      have hkl : k < tp.length := by omega
      obtain ⟨a1, a2⟩ := h k tp[k]! (by rw [List.getElem?_eq_getElem hkl, getElem!_pos tp k hkl])
      refine hP _ _ _ _ (And.intro (fun q => absurd q (nI_ge (by omega) (by omega))) (fun _ => And.intro (show vp_in (nI k) 39 from vinN (by omega) (by decide)) (And.intro (by decide) ?_)))
      show P 4 [some (rf 199), some (iv (nI m)), some (iv (nI 3 * nI c + (gI σ 199 (nI k).toNatClampNeg &&& nI 255) - (nI 3 * nI c + (gI σ 199 (nI k).toNatClampNeg &&& nI 255)) / nI 251 * nI 251)), some (iv (nI k + nI 1))] [] σ
      rw [clN (by omega), a1, bS_and a2, pk_mul, nI_add, pk_rem (by omega) (by omega) (by omega), nI_add]
      have e : (tp.take (k+1)) = tp.take k ++ [tp[k]!] := by
        rw [List.take_succ, List.getElem?_eq_getElem hkl, getElem!_pos tp k hkl]
        rfl
      refine ih (k+1) _ (by omega) ?_ ?_
      · rw [e]
        unfold chk
        rw [List.foldl_append, hc]
        rfl
      · have := Nat.mod_lt (3 * c + tp[k]!) (show 251 > 0 by omega)
        omega
  refine hP _ _ _ _ ?_
  exact key m 0 163 (by omega) rfl (by omega)
end TP_
