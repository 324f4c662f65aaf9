section NT_
variable (G : CX) (g : GX) (l : Launch) (d : Nat) (σ : AS)
set_option maxRecDepth 20000 in
set_option maxHeartbeats 2000000 in
theorem c_newStreet (tp : List Nat) (rs : RS) (C : List Nat) (a p : Nat) (hX : PX tp (.ok a) σ) (hW : Wds σ) (hR : MRS rs C σ) (hC : C.length ≤ a) (x : Int32) (hx : x = nI p) (hp : p ≤ 1600) :
    MC G g l (d+7) mX6_newStreet [tM, iv x] σ (fun r t => r = none ∧ rS σ t ∧ PRt tp (fun z b t => ∃ C' : List Nat, C'.length ≤ b ∧ MRS (addS rs z) C' t) (stP tp rs.2.2.1 a p) t) := by
  subst hx
  have hal : a ≤ tp.length ∧ tp.length ≤ 1600 := by obtain ⟨a', h1⟩ := hX; exact ⟨h1.2.2.2.2.1, h1.1.len⟩
  have hle : ∀ {S : Pos} {s : AS}, PX tp S s → ∀ b, S = .ok b → b ≤ 1600 := by
    intro S s h b hb
    subst hb
    obtain ⟨a', h1⟩ := h
    have := h1.2.2.2.2.1
    omega
  obtain ⟨w1, hw1⟩ : ∃ w, newF tp rs.2.2.1 a = w := ⟨_, rfl⟩
  obtain ⟨w2, hw2⟩ : ∃ w, bnd (posOf w1) (askW tp wFrom) = w := ⟨_, rfl⟩
  obtain ⟨w3, hw3⟩ : ∃ w, rP w2 (plcF tp rs.2.2.1 none) = w := ⟨_, rfl⟩
  obtain ⟨w4, hw4⟩ : ∃ w, bnd (posOf w3) (askW tp wTo) = w := ⟨_, rfl⟩
  obtain ⟨w5, hw5⟩ : ∃ w, rP w4 (plcF tp rs.2.2.1 (some (vlO w3))) = w := ⟨_, rfl⟩
  obtain ⟨w6, hw6⟩ : ∃ w, bnd (posOf w5) (askW tp wTakes) = w := ⟨_, rfl⟩
  obtain ⟨w7, hw7⟩ : ∃ w, rP w6 (numF tp 1 4) = w := ⟨_, rfl⟩
  obtain ⟨w8, hw8⟩ : ∃ w, bnd (posOf w7) (askW tp wRound) = w := ⟨_, rfl⟩
  obtain ⟨w9, hw9⟩ : ∃ w, rP w8 (numF tp 1 48) = w := ⟨_, rfl⟩
  obtain ⟨w10, hw10⟩ : ∃ w, bnd (posOf w9) (askW tp wShift) = w := ⟨_, rfl⟩
  obtain ⟨w11, hw11⟩ : ∃ w, rP w10 (numF tp 0 47) = w := ⟨_, rfl⟩
  obtain ⟨w12, hw12⟩ : ∃ w, bnd (posOf w11) (askW tp wWide) = w := ⟨_, rfl⟩
  obtain ⟨w13, hw13⟩ : ∃ w, rP w12 (sumP false tp 0) = w := ⟨_, rfl⟩
  have ew1 : st_1 tp rs.2.2.1 a = w1 := hw1
  have ew2 : st_2 tp rs.2.2.1 a = w2 := by rw [← hw2]; unfold st_2; rw [ew1]
  have ew3 : st_3 tp rs.2.2.1 a = w3 := by rw [← hw3]; unfold st_3; rw [ew2]
  have ew4 : st_4 tp rs.2.2.1 a = w4 := by rw [← hw4]; unfold st_4; rw [ew3]
  have ew5 : st_5 tp rs.2.2.1 a = w5 := by rw [← hw5]; unfold st_5; rw [ew4, ew3]
  have ew6 : st_6 tp rs.2.2.1 a = w6 := by rw [← hw6]; unfold st_6; rw [ew5]
  have ew7 : st_7 tp rs.2.2.1 a = w7 := by rw [← hw7]; unfold st_7; rw [ew6]
  have ew8 : st_8 tp rs.2.2.1 a = w8 := by rw [← hw8]; unfold st_8; rw [ew7]
  have ew9 : st_9 tp rs.2.2.1 a = w9 := by rw [← hw9]; unfold st_9; rw [ew8]
  have ew10 : st_10 tp rs.2.2.1 a = w10 := by rw [← hw10]; unfold st_10; rw [ew9]
  have ew11 : st_11 tp rs.2.2.1 a = w11 := by rw [← hw11]; unfold st_11; rw [ew10]
  have ew12 : st_12 tp rs.2.2.1 a = w12 := by rw [← hw12]; unfold st_12; rw [ew11]
  have ew13 : st_13 tp rs.2.2.1 a = w13 := by rw [← hw13]; unfold st_13; rw [ew12]
  generalize hres : stP tp rs.2.2.1 a p = res
  refine MC1 tX6_newStreet [15, 23, 31, 40, 49, 58, 79, 89] rfl okX6_newStreet rfl rfl rfl rfl (fun P hP => ?_)
  refine hP _ _ _ _ ?_
  refine mcall (c_isFull G g l (d+4) σ tp (.ok a) hX rs.2.2.1 hR.2.1 _ _ _ 1 12 p rfl rfl rfl (by omega) (by omega) hp) (fun r s1 h8 => ?_)
  obtain ⟨S1, ⟨t1, rfl, F1⟩ | ⟨t1, rfl, rfl⟩⟩ := h8
  · refine And.intro (fun q => absurd q (by decide)) (fun _ => ⟨rfl, rS.of S1 rfl, ?_⟩)
    have t1 : rs.2.2.1.2.1.length = 12 := t1
    have e9 : res = .error (5, p) := by rw [← hres]; unfold stP; rw [if_pos t1]
    subst e9
    exact F1
  have t1 : ¬ rs.2.2.1.2.1.length = 12 := t1
  have c2 : gI s1 220 1 = nI rs.2.2.1.2.1.length := (hR.2.1.cnt (k := 1) (by omega)).1
  have hl6 := hR.2.1.1.2.1
  refine And.intro (fun _ => And.intro (vin 1 6 rfl rfl) ?_) (fun q => absurd rfl q)
  refine mcall (c_newName G g l (d+1) s1 tp (.ok a) hX hW rs.2.2.1 hR.2.1 (fun b hb => by cases hb; omega)) (fun r s2 h8 => ?_)
  obtain ⟨S2, X2, v, rfl, V2⟩ := h8
  show P 15 [some tM, some (iv (nI p)), some (iv (gI s1 220 1)), some (.inr (.inl v)), none, none, none, none, none, none] [] s2
  refine hP _ _ _ _ ?_
  have X2 : PX tp (posOf w1) s2 := by rw [← hw1]; exact X2
  refine mcall (c_asks_205 G g l (d+2) s2 tp _ X2 ((hW.keep S2 rfl).1 2 wFrom rfl)) (fun r s3 h8 => ?_)
  obtain ⟨rfl, S3, X3⟩ := h8
  have X3 : PX tp (bnd (posOf w1) (askW tp wFrom)) s3 := by
    revert X3
    revert X2
    generalize posOf w1 = S
    intro X2 X3
    cases S <;> exact X3
  have X3 : PX tp w2 s3 := by rw [← hw2]; exact X3
  have Q3 := S2.tr (S3.mono (fs' := [2, 4, 5, 6, 27]) (ids' := []) rfl rfl)
  refine mcall (c_placeTold G g l (d+1) s3 tp _ X3 (hW.keep Q3 rfl) rs.2.2.1 (hR.2.1.keep Q3 rfl) (hle X3) _ none (fun _ k hk => some_k k hk)) (fun r s4 h8 => ?_)
  obtain ⟨S4, X4, v3, rfl, V3⟩ := h8
  show P 23 [some tM, some (iv (nI p)), some (iv (gI s1 220 1)), some (.inr (.inl v)), none, some (iv v3), none, none, none, none] [] s4
  refine hP _ _ _ _ ?_
  have X4 : PX tp (posOf w3) s4 := by rw [← hw3, posOf_rP]; exact X4
  have Q4 := Q3.tr S4
  refine mcall (c_asks_206 G g l (d+2) s4 tp _ X4 ((hW.keep Q4 rfl).1 3 wTo rfl)) (fun r s5 h8 => ?_)
  obtain ⟨rfl, S5, X5⟩ := h8
  have X5 : PX tp (bnd (posOf w3) (askW tp wTo)) s5 := by
    revert X5
    revert X4
    generalize posOf w3 = S
    intro X4 X5
    cases S <;> exact X5
  have X5 : PX tp w4 s5 := by rw [← hw4]; exact X5
  have Q5 := Q4.tr (S5.mono (fs' := [2, 4, 5, 6, 27]) (ids' := []) rfl rfl)
  have hv3 : (∃ b, w4 = .ok b) → v3 = nI (vlO w3) ∧ vlO w3 < rs.2.2.1.1.length := by
    rintro ⟨b, hb⟩
    obtain ⟨b5, h5, -⟩ := bnd_ok (hw4.trans hb)
    obtain ⟨z5, h5⟩ := posOf_ok h5
    obtain ⟨a4, h4, k5⟩ := rP_ok (hw3.trans h5)
    have := V3 a4 _ h4 k5
    rw [h5]
    exact ⟨this, (plcF_ok k5).1⟩
  refine mcall (c_placeTold G g l (d+1) s5 tp _ X5 (hW.keep Q5 rfl) rs.2.2.1 (hR.2.1.keep Q5 rfl) (hle X5) _ (some (vlO w3)) (fun hs k hk => by
    have h9 := hv3 hs
    have := hR.2.1.1.1
    rw [h9.1, nI_eq (by omega) (by omega)]
    exact ⟨fun e => by rw [e], fun e => (Option.some.inj e).symm⟩)) (fun r s6 h8 => ?_)
  obtain ⟨S6, X6, v5, rfl, V5⟩ := h8
  show P 31 [some tM, some (iv (nI p)), some (iv (gI s1 220 1)), some (.inr (.inl v)), none, some (iv v3), some (iv v5), none, none, none] [] s6
  refine hP _ _ _ _ ?_
  have X6 : PX tp (posOf w5) s6 := by rw [← hw5, posOf_rP]; exact X6
  have Q6 := Q5.tr S6
  refine mcall (c_asks_207 G g l (d+2) s6 tp _ X6 ((hW.keep Q6 rfl).1 4 wTakes rfl)) (fun r s7 h8 => ?_)
  obtain ⟨rfl, S7, X7⟩ := h8
  have X7 : PX tp (bnd (posOf w5) (askW tp wTakes)) s7 := by
    revert X7
    revert X6
    generalize posOf w5 = S
    intro X6 X7
    cases S <;> exact X7
  have X7 : PX tp w6 s7 := by rw [← hw6]; exact X7
  have Q7 := Q6.tr (S7.mono (fs' := [2, 4, 5, 6, 27]) (ids' := []) rfl rfl)
  refine mcall (c_number G g l (d+4) s7 tp _ X7 _ _ 1 4 rfl rfl (by omega) (by omega)) (fun r s8 h8 => ?_)
  obtain ⟨S8, X8, v7, rfl, V7⟩ := h8
  show P 40 [some tM, some (iv (nI p)), some (iv (gI s1 220 1)), some (.inr (.inl v)), none, some (iv v3), some (iv v5), some (iv v7), none, none] [] s8
  refine hP _ _ _ _ ?_
  have X8 : PX tp (posOf w7) s8 := by rw [← hw7, posOf_rP]; exact X8
  have Q8 := Q7.tr (S8.mono (fs' := [2, 4, 5, 6, 27]) (ids' := []) rfl rfl)
  refine mcall (c_asks_208 G g l (d+2) s8 tp _ X8 ((hW.keep Q8 rfl).1 5 wRound rfl)) (fun r s9 h8 => ?_)
  obtain ⟨rfl, S9, X9⟩ := h8
  have X9 : PX tp (bnd (posOf w7) (askW tp wRound)) s9 := by
    revert X9
    revert X8
    generalize posOf w7 = S
    intro X8 X9
    cases S <;> exact X9
  have X9 : PX tp w8 s9 := by rw [← hw8]; exact X9
  have Q9 := Q8.tr (S9.mono (fs' := [2, 4, 5, 6, 27]) (ids' := []) rfl rfl)
  refine mcall (c_number G g l (d+4) s9 tp _ X9 _ _ 1 48 rfl rfl (by omega) (by omega)) (fun r u1 h8 => ?_)
  obtain ⟨T1, Y1, v9, rfl, V9⟩ := h8
  show P 49 [some tM, some (iv (nI p)), some (iv (gI s1 220 1)), some (.inr (.inl v)), none, some (iv v3), some (iv v5), some (iv v7), some (iv v9), none] [] u1
  refine hP _ _ _ _ ?_
  have Y1 : PX tp (posOf w9) u1 := by rw [← hw9, posOf_rP]; exact Y1
  have R1 := Q9.tr (T1.mono (fs' := [2, 4, 5, 6, 27]) (ids' := []) rfl rfl)
  refine mcall (c_asks_209 G g l (d+2) u1 tp _ Y1 ((hW.keep R1 rfl).1 6 wShift rfl)) (fun r u2 h8 => ?_)
  obtain ⟨rfl, T2, Y2⟩ := h8
  have Y2 : PX tp (bnd (posOf w9) (askW tp wShift)) u2 := by
    revert Y2
    revert Y1
    generalize posOf w9 = S
    intro Y1 Y2
    cases S <;> exact Y2
  have Y2 : PX tp w10 u2 := by rw [← hw10]; exact Y2
  have R2 := R1.tr (T2.mono (fs' := [2, 4, 5, 6, 27]) (ids' := []) rfl rfl)
  refine mcall (c_number G g l (d+4) u2 tp _ Y2 _ _ 0 47 rfl rfl (by omega) (by omega)) (fun r u3 h8 => ?_)
  obtain ⟨T3, Y3, v11, rfl, V11⟩ := h8
  show P 58 [some tM, some (iv (nI p)), some (iv (gI s1 220 1)), some (.inr (.inl v)), none, some (iv v3), some (iv v5), some (iv v7), some (iv v9), some (iv v11)] [] u3
  refine hP _ _ _ _ ?_
  have Y3 : PX tp (posOf w11) u3 := by rw [← hw11, posOf_rP]; exact Y3
  have R3 := R2.tr (T3.mono (fs' := [2, 4, 5, 6, 27]) (ids' := []) rfl rfl)
  refine mcall (c_asks_210 G g l (d+2) u3 tp _ Y3 ((hW.keep R3 rfl).1 7 wWide rfl)) (fun r u4 h8 => ?_)
  obtain ⟨rfl, T4, Y4⟩ := h8
  have Y4 : PX tp (bnd (posOf w11) (askW tp wWide)) u4 := by
    revert Y4
    revert Y3
    generalize posOf w11 = S
    intro Y3 Y4
    cases S <;> exact Y4
  have Y4 : PX tp w12 u4 := by rw [← hw12]; exact Y4
  have R4 := R3.tr (T4.mono (fs' := [2, 4, 5, 6, 27]) (ids' := []) rfl rfl)
  have M4 := hR.keep R4
  generalize hm : rs.2.2.1.2.1.length = m at *
  have i0 : gI s1 220 1 = nI m := c2
  have cC : gI u4 200 35 = nI C.length := M4.2.2.2.2.2.2.1.1
  refine And.intro (show vp_in (gI s1 220 1) 24 from by rw [i0]; exact vinN (by omega) (by decide)) ?_
  -- from here on the sum
  have e0 : (gI s1 220 1).toNatClampNeg = m := by rw [i0, clN (by omega)]
  show callP G (true, g) l (d+7) mX6_sumsTold [tM] (sI (sI (sI (sI u4 226 (gI s1 220 1).toNatClampNeg (gI u4 200 35)) 200 37 (nI 0)) 200 38 (nI 0)) 200 41 (nI 0)) _ _
  rw [e0, cC]
  generalize ht : sI (sI (sI (sI u4 226 m (nI C.length)) 200 37 (nI 0)) 200 38 (nI 0)) 200 41 (nI 0) = u5
  have T5 : mS [37, 38, 41] [226] u4 u5 := by rw [← ht]; exact (((mS.rf.a rfl).f rfl).f rfl).f rfl
  have R5 : rS s1 u5 := by
    rw [← ht]
    exact (((((rS.of R4 rfl).i (by omega)).f rfl).f rfl).f rfl)
  have g226 : ∀ i, gI u5 226 i = if i = m then nI C.length else gI u4 226 i := fun i => by
    rw [← ht, gI_sI, if_neg (by omega), gI_sI, if_neg (by omega), gI_sI, if_neg (by omega), gI_sI]
    simp only [true_and]
  have g37 : gI u5 200 37 = nI 0 := by rw [← ht, gI_sI, if_neg (by omega), gI_sI, if_neg (by omega), gI_sI, if_pos ⟨rfl, rfl⟩]
  have g38 : gI u5 200 38 = nI 0 := by rw [← ht, gI_sI, if_neg (by omega), gI_sI, if_pos ⟨rfl, rfl⟩]
  cases h12 : w12 with
  | error f =>
    rw [h12] at Y4
    have F5 : PF tp f u5 := PX.keep (S := .error f) Y4 T5 rfl
    refine mcall (c_sumsBad G g l (d+5) u5 tp f F5) (fun r u6 h8 => ?_)
    obtain ⟨rfl, T6, F6⟩ := h8
    show P 79 [some tM, some (iv (nI p)), some (iv (gI s1 220 1)), some (.inr (.inl v)), none, some (iv v3), some (iv v5), some (iv v7), some (iv v9), some (iv v11)] [] u6
    refine hP _ _ _ _ ?_
    refine And.intro (show vp_in (gI s1 220 1) 24 from by rw [i0]; exact vinN (by omega) (by decide)) ?_
    have F7 : PF tp f (sI u6 227 (gI s1 220 1).toNatClampNeg (gI u6 200 35)) := PX.keep (S := .error f) F6 (fs := []) (ids := [227]) (mS.rf.a rfl) rfl
    refine And.intro (fun q => absurd q (pf_bad F7)) (fun _ => ⟨rfl, ((R5.tr (rS.of T6 rfl)).i (by rw [e0]; omega)), ?_⟩)
    have e13 : w13 = .error f := by rw [← hw13, h12]; rfl
    have e9 : res = .error f := by rw [← hres]; unfold stP; rw [hm, if_neg t1, ew13, e13]
    subst e9
    exact F7
  | ok b3 =>
    rw [h12] at Y4
    have X5' : PX tp (.ok b3) u5 := Y4.keep T5 rfl
    obtain ⟨b12, h11, k12⟩ := bnd_ok (hw12.trans h12)
    obtain ⟨z11, h11⟩ := posOf_ok h11
    obtain ⟨a10, h10, k11⟩ := rP_ok (hw11.trans h11)
    obtain ⟨b10, h9, k10⟩ := bnd_ok (hw10.trans h10)
    obtain ⟨z9, h9⟩ := posOf_ok h9
    obtain ⟨a8, h8', k9⟩ := rP_ok (hw9.trans h9)
    obtain ⟨b8, h7, k8⟩ := bnd_ok (hw8.trans h8')
    obtain ⟨z7, h7⟩ := posOf_ok h7
    obtain ⟨a6, h6, k7⟩ := rP_ok (hw7.trans h7)
    obtain ⟨b6, h5, k6⟩ := bnd_ok (hw6.trans h6)
    obtain ⟨z5, h5⟩ := posOf_ok h5
    obtain ⟨a4, h4, k5⟩ := rP_ok (hw5.trans h5)
    have g4 := hv3 ⟨a4, h4⟩
    obtain ⟨b4, h3, k4⟩ := bnd_ok (hw4.trans h4)
    obtain ⟨z3, h3⟩ := posOf_ok h3
    obtain ⟨a2, h2, k3⟩ := rP_ok (hw3.trans h3)
    obtain ⟨b2, h1, k2⟩ := bnd_ok (hw2.trans h2)
    obtain ⟨z1, h1⟩ := posOf_ok h1
    have e1 : v = lN (vlO w1) := by rw [V2 a _ rfl (hw1.trans h1), h1]; rfl
    have e5 : v5 = nI (vlO w5) := by rw [V5 a4 _ h4 k5, h5]; rfl
    have e7 : v7 = nI (vlO w7) := by rw [V7 a6 _ h6 k7, h7]; rfl
    have e9 : v9 = nI (vlO w9) := by rw [V9 a8 _ h8' k9, h9]; rfl
    have e11 : v11 = nI (vlO w11) := by rw [V11 a10 _ h10 k11, h11]; rfl
    have n9 := numF_ok k9
    have n11 := numF_ok k11
    have q9 : vlO w9 = z9 := by rw [h9]; rfl
    have q11 : vlO w11 = z11 := by rw [h11]; rfl
    simp only [] at n9 n11
    have hb3 : a < b3 := by
      have l1 := (namF_ok (newF_ok (hw1.trans h1)).1).1
      have l2 := askW_lt k2
      have l3 := (plcF_ok k3).2.2.1
      have l4 := askW_lt k4
      have l5 := (plcF_ok k5).2.2.1
      have l6 := askW_lt k6
      have l7 := (numF_ok k7).2.2.1
      have l8 := askW_lt k8
      have l9 := n9.2.2.1
      have l10 := askW_lt k10
      have l11 := n11.2.2.1
      have l12 := askW_lt k12
      simp only [] at l1 l3 l5 l7
      omega
    have hb4 : b3 ≤ tp.length := (askW_lt k12).2
    obtain ⟨h0, h1m, h2m, h3m, h4m, h5m, ⟨h6m, h6a, h6b⟩, h7m⟩ := M4
    have MF5 : MFt [] C 0 u5 := ⟨by rw [T5.i 200 35 rfl rfl]; exact h6m, g37, g38, fun i w e => by rw [T5.ia 224 rfl rfl]; exact h6b i w e, fun i w e => by simp at e, fun w hw => by simp at hw, by omega, by show C.length + 0 ≤ 1600; omega⟩
    refine mcall (c_sumsTold G g l d u5 tp [] C 0 b3 X5' MF5 (by show C.length + 0 < b3; omega) (fun w hw => by cases hw) ((hW.keep R4 rfl).keep T5 rfl)) (fun r u6 h8 => ?_)
    obtain ⟨rfl, T6, B6, h8⟩ := h8
    show P 79 [some tM, some (iv (nI p)), some (iv (gI s1 220 1)), some (.inr (.inl v)), none, some (iv v3), some (iv v5), some (iv v7), some (iv v9), some (iv v11)] [] u6
    refine hP _ _ _ _ ?_
    have R6 := R5.tr (rS.ofY T6)
    refine And.intro (show vp_in (gI s1 220 1) 24 from by rw [i0]; exact vinN (by omega) (by decide)) ?_
    have e13 : w13 = sumP false tp 0 b3 := by rw [← hw13, h12]; rfl
    cases hs : sumP false tp 0 b3 with
    | error f =>
      rw [hs] at h8
      have F7 : PF tp f (sI u6 227 (gI s1 220 1).toNatClampNeg (gI u6 200 35)) := PX.keep (S := .error f) h8.1 (fs := []) (ids := [227]) (mS.rf.a rfl) rfl
      refine And.intro (fun q => absurd q (pf_bad F7)) (fun _ => ⟨rfl, (R6.i (by rw [e0]; omega)), ?_⟩)
      have e99 : res = .error f := by rw [← hres]; unfold stP; rw [hm, if_neg t1, ew13, e13, hs]
      subst e99
      exact F7
    | ok y =>
      rw [hs] at h8
      obtain ⟨X6', M6⟩ := h8
      have e99 : res = .ok ((vlO w1, stR tp rs.2.2.1 a y.1), y.2) := by rw [← hres]; unfold stP; rw [hm, if_neg t1, ew13, e13, hs, ew1]
      have eR : stR tp rs.2.2.1 a y.1 = (vlO w3, vlO w5, vlO w7, vlO w9, vlO w11 % vlO w9, y.1) := by unfold stR; rw [ew3, ew5, ew7, ew9, ew11]
      rw [eR] at e99
      have k99 := stP_ok hal.1 (hres.trans e99)
      subst e99
      have qs := sumP_good hb4 hs
      obtain ⟨-, qs2, qs3, qs4⟩ := qs
      obtain ⟨m1, m2, m3, m4, m5, m6, m7, m8⟩ := M6
      rw [e0, m1]
      have S7 : mS [] [227] u6 (sI u6 227 m (nI (C ++ y.1).length)) := mS.rf.a rfl
      generalize hu7 : sI u6 227 m (nI (C ++ y.1).length) = u7 at S7
      have R7 : rS s1 u7 := by rw [← hu7]; exact R6.i (by omega)
      have X7' : PX tp (.ok y.2) u7 := X6'.keep S7 rfl
      have i1 : nI 12 + gI s1 220 1 = nI (12 + m) := by rw [i0, nI_add]
      have i2 : nI 5 * gI s1 220 1 = nI (5 * m) := by rw [i0, pk_mul]
      have i3 : ∀ j, nI 5 * gI s1 220 1 + nI j = nI (5 * m + j) := fun j => by rw [i0, nI_ix]
      have hmod : v11 - v11 / v9 * v9 = nI (vlO w11 % vlO w9) := by rw [e11, e9, pk_rem (by omega) (by omega) (by omega)]
      have c7 : gI u7 220 1 = nI m := by rw [S7.ia 220 rfl rfl, T6.1.ia 220 rfl rfl, T5.ia 220 rfl rfl]; have := (h1m.cnt (k := 1) (by omega)).1; rw [this]; show nI rs.2.2.1.2.1.length = nI m; rw [hm]
      refine And.intro (fun _ => ?_) (fun q => absurd (PE.bad0 X7') q)
      show P 89 [some tM, some (iv (nI p)), some (iv (gI s1 220 1)), some (.inr (.inl v)), none, some (iv v3), some (iv v5), some (iv v7), some (iv v9), some (iv v11)] [] u7
      refine hP _ _ _ _ ?_
      refine And.intro (show vp_in (nI 12 + gI s1 220 1) 72 from by rw [i1]; exact vinN (by omega) (by decide)) ?_
      refine And.intro (show vp_in (nI 5 * gI s1 220 1) 120 from by rw [i2]; exact vinN (by omega) (by decide)) ?_
      refine And.intro (show vp_in (nI 5 * gI s1 220 1 + nI 1) 120 from by rw [i3]; exact vinN (by omega) (by decide)) ?_
      refine And.intro (show vp_in (nI 5 * gI s1 220 1 + nI 2) 120 from by rw [i3]; exact vinN (by omega) (by decide)) ?_
      refine And.intro (show vp_in (nI 5 * gI s1 220 1 + nI 3) 120 from by rw [i3]; exact vinN (by omega) (by decide)) ?_
      refine And.intro (show ¬ v9 = 0 from by rw [e9]; exact nI_ne0 (by omega) (by omega)) ?_
      refine And.intro (show vp_in (nI 5 * gI s1 220 1 + nI 4) 120 from by rw [i3]; exact vinN (by omega) (by decide)) ?_
      refine And.intro (vin 1 6 rfl rfl) (And.intro (vin 1 6 rfl rfl) ?_)
      show none = none ∧ rS s1 (sI (sI (sI (sI (sI (sI (sL u7 221 (nI 12 + gI s1 220 1).toNatClampNeg v) 222 (nI 5 * gI s1 220 1).toNatClampNeg v3) 222 (nI 5 * gI s1 220 1 + nI 1).toNatClampNeg v5) 222 (nI 5 * gI s1 220 1 + nI 2).toNatClampNeg v7) 222 (nI 5 * gI s1 220 1 + nI 3).toNatClampNeg v9) 222 (nI 5 * gI s1 220 1 + nI 4).toNatClampNeg (v11 - v11 / v9 * v9)) 220 1 (gI u7 220 1 + nI 1)) ∧ PX tp (.ok y.2) (sI (sI (sI (sI (sI (sI (sL u7 221 (nI 12 + gI s1 220 1).toNatClampNeg v) 222 (nI 5 * gI s1 220 1).toNatClampNeg v3) 222 (nI 5 * gI s1 220 1 + nI 1).toNatClampNeg v5) 222 (nI 5 * gI s1 220 1 + nI 2).toNatClampNeg v7) 222 (nI 5 * gI s1 220 1 + nI 3).toNatClampNeg v9) 222 (nI 5 * gI s1 220 1 + nI 4).toNatClampNeg (v11 - v11 / v9 * v9)) 220 1 (gI u7 220 1 + nI 1)) ∧ ∃ C', C'.length ≤ y.2 ∧ MRS (addS rs (vlO w1, (vlO w3, vlO w5, vlO w7, vlO w9, vlO w11 % vlO w9, y.1))) C' (sI (sI (sI (sI (sI (sI (sL u7 221 (nI 12 + gI s1 220 1).toNatClampNeg v) 222 (nI 5 * gI s1 220 1).toNatClampNeg v3) 222 (nI 5 * gI s1 220 1 + nI 1).toNatClampNeg v5) 222 (nI 5 * gI s1 220 1 + nI 2).toNatClampNeg v7) 222 (nI 5 * gI s1 220 1 + nI 3).toNatClampNeg v9) 222 (nI 5 * gI s1 220 1 + nI 4).toNatClampNeg (v11 - v11 / v9 * v9)) 220 1 (gI u7 220 1 + nI 1))
      rw [hmod, i1, i3, i3, i3, i3, i2, clN (by omega), clN (by omega), clN (by omega), clN (by omega), clN (by omega), clN (by omega), e1, g4.1, e5, e7, e9, c7, nI_add]
      generalize ht9 : sI (sI (sI (sI (sI (sI (sL u7 221 (12 + m) (lN (vlO w1))) 222 (5 * m) (nI (vlO w3))) 222 (5 * m + 1) (nI (vlO w5))) 222 (5 * m + 2) (nI (vlO w7))) 222 (5 * m + 3) (nI (vlO w9))) 222 (5 * m + 4) (nI (vlO w11 % vlO w9))) 220 1 (nI (m + 1)) = t
      have hS9 : mS [] [220, 221, 222] u7 t := by rw [← ht9]; exact ((((((mS.rf.al rfl).a rfl).a rfl).a rfl).a rfl).a rfl).a rfl
      have j0 : ∀ j, j ≠ 1 → gI t 220 j = gI u7 220 j := fun j hj => by rw [← ht9, gI_sI, if_neg (by omega), gI_sI, if_neg (by omega), gI_sI, if_neg (by omega), gI_sI, if_neg (by omega), gI_sI, if_neg (by omega), gI_sI, if_neg (by omega)]; rfl
      have j1 : gI t 220 1 = nI (m + 1) := by rw [← ht9, gI_sI, if_pos ⟨rfl, rfl⟩]
      have gl : ∀ i, gL t 221 i = if i = 12 + m then lN (vlO w1) else gL u7 221 i := fun i => by
        rw [← ht9]
        show gL (sL u7 221 (12 + m) (lN (vlO w1))) 221 i = _
        rw [gL_sL]
        by_cases hi : i = 12 + m
        · rw [if_pos ⟨rfl, hi⟩, if_pos hi]
        · rw [if_neg (fun q => hi q.2), if_neg hi]
      have gw : ∀ i, gI t 222 i = if i = 5 * m + 4 then nI (vlO w11 % vlO w9) else if i = 5 * m + 3 then nI (vlO w9) else if i = 5 * m + 2 then nI (vlO w7) else if i = 5 * m + 1 then nI (vlO w5) else if i = 5 * m then nI (vlO w3) else gI u7 222 i := fun i => by
        rw [← ht9, gI_sI, if_neg (by omega), gI_sI, gI_sI, gI_sI, gI_sI, gI_sI]
        simp only [true_and]
        rfl
      have g227 : ∀ i, gI t 227 i = if i = m then nI (C ++ y.1).length else gI u6 227 i := fun i => by
        rw [hS9.ia 227 rfl rfl, ← hu7, gI_sI]
        simp only [true_and]
      have old : ∀ i, gI t 226 i = if i = m then nI C.length else gI u4 226 i := fun i => by rw [hS9.ia 226 rfl rfl, S7.ia 226 rfl rfl, T6.1.ia 226 rfl rfl]; exact g226 i
      have o222 : ∀ i, gI u7 222 i = gI u4 222 i := fun i => by rw [S7.ia 222 rfl rfl, T6.1.ia 222 rfl rfl, T5.ia 222 rfl rfl]
      have o223 : ∀ i, gI t 223 i = gI u4 223 i := fun i => by rw [hS9.ia 223 rfl rfl, S7.ia 223 rfl rfl, T6.1.ia 223 rfl rfl, T5.ia 223 rfl rfl]
      have o227 : ∀ i, gI u6 227 i = gI u4 227 i := fun i => by rw [T6.1.ia 227 rfl rfl, T5.ia 227 rfl rfl]
      have o221 : ∀ i, gL u7 221 i = gL u4 221 i := fun i => by rw [S7.la 221 rfl rfl, T6.1.la 221 rfl rfl, T5.la 221 rfl rfl]
      have o220 : ∀ i, gI u7 220 i = gI u4 220 i := fun i => by rw [S7.ia 220 rfl rfl, T6.1.ia 220 rfl rfl, T5.ia 220 rfl rfl]
      have hCl : (C ++ y.1).length = C.length + y.1.length := List.length_append
      refine ⟨rfl, ?_, X7'.keep hS9 rfl, C ++ y.1, by rw [hCl]; omega, ?_⟩
      · rw [← ht9]
        exact ((((((((R7.l (by omega)).i (by omega)).i (by omega)).i (by omega)).i (by omega)).i (by omega)).i (by omega)))
      have hn9 := h0.n
      obtain ⟨r1, r2, ⟨r3, r4, r5⟩, r6, r7, r8, r9, r10⟩ := h0
      have hok : RSOK (addS rs (vlO w1, (vlO w3, vlO w5, vlO w7, vlO w9, vlO w11 % vlO w9, y.1))) := by
        refine ⟨r1, r2, ⟨r3, by show (rs.2.2.1.2.1 ++ [_]).length ≤ 12; simp; omega, r5⟩, by show (rs.2.2.2.1 ++ [_]).length = (rs.2.2.1.2.1 ++ [_]).length; simp [r6], r7, mem_snoc r8 k99.2.1, r9, nmOK hn9.1 (mem_snoc hn9.2.1 k99.2.2.2.1) hn9.2.2⟩
      have hm9 : (nmK rs.2.2.1 1).length = m := hm
      refine ⟨hok, h1m.add (k := 1) (v := vlO w1) (by omega) rfl (fun j hj hj0 => ?_) hok.2.2.1 k99.2.2.2.1.1 (by rw [hm9]; exact j1) (fun j hj hj0 => by rw [j0 j hj0, o220]) (by rw [hm9, gl, if_pos (by omega)]) (fun i hi => by rw [hm9] at hi; rw [gl, if_neg (by omega), o221]), ?_, ?_, fun k u hu => ?_, fun k u hu => ?_, ⟨?_, ?_, fun i u hu => ?_⟩, fun k u hu => ?_⟩
      · have : j = 0 ∨ j = 2 := by omega
        rcases this with rfl | rfl <;> rfl
      · rw [hS9.i 200 33 rfl rfl, S7.i 200 33 rfl rfl, T6.1.i 200 33 rfl rfl, T5.i 200 33 rfl rfl]; exact h2m
      · rw [hS9.i 200 32 rfl rfl, S7.i 200 32 rfl rfl, T6.1.i 200 32 rfl rfl, T5.i 200 32 rfl rfl]; exact h3m
      · have hu : (rs.2.2.2.1 ++ [(vlO w3, vlO w5, vlO w7, vlO w9, vlO w11 % vlO w9, y.1)])[k]? = some u := hu
        rcases Nat.lt_trichotomy k m with q | q | q
        · rw [List.getElem?_append_left (by omega)] at hu
          simp only [gw, o222]
          rw [if_neg (by omega), if_neg (by omega), if_neg (by omega), if_neg (by omega), if_neg (by omega), if_neg (by omega), if_neg (by omega), if_neg (by omega), if_neg (by omega), if_neg (by omega), if_neg (by omega), if_neg (by omega), if_neg (by omega), if_neg (by omega), if_neg (by omega), if_neg (by omega), if_neg (by omega), if_neg (by omega), if_neg (by omega), if_neg (by omega), if_neg (by omega), if_neg (by omega), if_neg (by omega), if_neg (by omega), if_neg (by omega)]
          exact h4m k u hu
        · rw [List.getElem?_append_right (by omega), show k - rs.2.2.2.1.length = 0 by omega] at hu
          cases hu
          subst q
          refine ⟨?_, ?_, ?_, ?_, ?_⟩
          · rw [gw, if_neg (by omega), if_neg (by omega), if_neg (by omega), if_neg (by omega), if_pos rfl]
          · rw [gw, if_neg (by omega), if_neg (by omega), if_neg (by omega), if_pos rfl]
          · rw [gw, if_neg (by omega), if_neg (by omega), if_pos rfl]
          · rw [gw, if_neg (by omega), if_pos rfl]
          · rw [gw, if_pos rfl]
        · rw [List.getElem?_eq_none (by simp; omega)] at hu
          cases hu
      · simp only [o223]; exact h5m k u hu
      · rw [hS9.i 200 35 rfl rfl, S7.i 200 35 rfl rfl]; exact m1
      · rw [hCl]; omega
      · rw [hS9.ia 224 rfl rfl, S7.ia 224 rfl rfl]; exact m4 i u hu
      · have hu : (rs.2.2.2.1 ++ [(vlO w3, vlO w5, vlO w7, vlO w9, vlO w11 % vlO w9, y.1)])[k]? = some u := hu
        rcases Nat.lt_trichotomy k m with q | q | q
        · rw [List.getElem?_append_left (by omega)] at hu
          obtain ⟨f, f1, f2, f3, f4⟩ := h7m k u hu
          refine ⟨f, by rw [old, if_neg (by omega)]; exact f1, by rw [g227, if_neg (by omega), o227]; exact f2, by rw [hCl]; omega, fun j c hj => ?_⟩
          have := f4 j c hj
          rw [List.getElem?_append_left (List.getElem?_eq_some_iff.mp this).1]
          exact this
        · rw [List.getElem?_append_right (by omega), show k - rs.2.2.2.1.length = 0 by omega] at hu
          cases hu
          subst q
          refine ⟨C.length, by rw [old, if_pos rfl], by rw [g227, if_pos rfl, hCl], by rw [hCl]; exact Nat.le_refl _, fun j c hj => ?_⟩
          rw [List.getElem?_append_right (by omega), show C.length + j - C.length = j by omega]
          exact hj
        · rw [List.getElem?_eq_none (by simp; omega)] at hu
          cases hu
end NT_
