/-- the outcome of a reading -/
def PRt {α : Type} (tp : List Nat) (K : α → Nat → AS → Prop) (res : PR α) (t : AS) : Prop := match res with
  | .ok z => PX tp (.ok z.2) t ∧ K z.1 z.2 t
  | .error f => PF tp f t
section NS_
variable (G : CX) (g : GX) (l : Launch) (d : Nat) (σ : AS)
theorem c_sumsBad (tp : List Nat) (f : Flt) (h : PF tp f σ) : MC G g l (d+1) mX6_sumsTold [tM] σ (fun r t => r = none ∧ mS [41] [] σ t ∧ PF tp f t) := by
  refine MC0 tX6_sumsTold rfl okX6_sumsTold rfl rfl rfl rfl (fun P => ?_)
  have h1 : PF tp f (sI σ 200 41 (gI σ 200 37)) := PX.keep (S := .error f) h (fs := [41]) (ids := []) (mS.rf.f rfl) rfl
  refine And.intro (fun q => absurd q (by decide)) (fun _ => And.intro (fun _ => And.intro (fun _ => ⟨rfl, (mS.rf.f rfl).f rfl, PX.keep (S := .error f) h (fs := [41]) (ids := []) ((mS.rf.f rfl).f rfl) rfl⟩) (fun q => absurd q (pf_bad h1))) (fun q => absurd q (pf_bad h1)))
theorem some_k (k : Nat) (hk : k < 100) : (nI k = - nI 1 ↔ (none : Option Nat) = some k) := ⟨fun e => absurd e (nI_ne_m1 (by omega)), fun e => by cases e⟩
set_option maxHeartbeats 800000 in
theorem c_newWalker (tp : List Nat) (rs : RS) (C : List Nat) (a p : Nat) (hX : PX tp (.ok a) σ) (hW : Wds σ) (hR : MRS rs C σ) (x : Int32) (hx : x = nI p) (hp : p ≤ 1600) :
    MC G g l (d+7) mX6_newWalker [tM, iv x] σ (fun r t => r = none ∧ rS σ t ∧ PRt tp (fun z _ t => MRS (addW rs z) C t) (wkP tp rs.2.2.1 a p) t) := by
  subst hx
  have hal : a ≤ tp.length ∧ tp.length ≤ 1600 := by obtain ⟨a', h1⟩ := hX; exact ⟨h1.2.2.2.2.1, h1.1.len⟩
  have hle : ∀ {S : Pos} {s : AS}, PX tp S s → ∀ b, S = .ok b → b ≤ 1600 := by
    intro S s h b hb
    subst hb
    obtain ⟨a', h1⟩ := h
    have := h1.2.2.2.2.1
    omega
  obtain ⟨w1, hw1⟩ : ∃ w, newF tp rs.2.2.1 a = w := ⟨_, rfl⟩
  obtain ⟨w2, hw2⟩ : ∃ w, bnd (posOf w1) (askW tp wBroad) = w := ⟨_, rfl⟩
  obtain ⟨w3, hw3⟩ : ∃ w, rP w2 (numF tp 1 99) = w := ⟨_, rfl⟩
  obtain ⟨w4, hw4⟩ : ∃ w, bnd (posOf w3) (askW tp wAt) = w := ⟨_, rfl⟩
  obtain ⟨w5, hw5⟩ : ∃ w, rP w4 (plcF tp rs.2.2.1 none) = w := ⟨_, rfl⟩
  obtain ⟨w6, hw6⟩ : ∃ w, bnd (posOf w5) (askW tp wTo) = w := ⟨_, rfl⟩
  obtain ⟨w7, hw7⟩ : ∃ w, rP w6 (plcF tp rs.2.2.1 (some (vlO w5))) = w := ⟨_, rfl⟩
  have ew1 : wk_1 tp rs.2.2.1 a = w1 := hw1
  have ew2 : wk_2 tp rs.2.2.1 a = w2 := by rw [← hw2]; unfold wk_2; rw [ew1]
  have ew3 : wk_3 tp rs.2.2.1 a = w3 := by rw [← hw3]; unfold wk_3; rw [ew2]
  have ew4 : wk_4 tp rs.2.2.1 a = w4 := by rw [← hw4]; unfold wk_4; rw [ew3]
  have ew5 : wk_5 tp rs.2.2.1 a = w5 := by rw [← hw5]; unfold wk_5; rw [ew4]
  have ew6 : wk_6 tp rs.2.2.1 a = w6 := by rw [← hw6]; unfold wk_6; rw [ew5]
  have ew7 : wk_7 tp rs.2.2.1 a = w7 := by rw [← hw7]; unfold wk_7; rw [ew6, ew5]
  generalize hres : wkP tp rs.2.2.1 a p = res
  refine MC1 tX6_newWalker [15, 24, 32, 40, 44] rfl okX6_newWalker rfl rfl rfl rfl (fun P hP => ?_)
  refine hP _ _ _ _ ?_
  refine mcall (c_isFull G g l (d+4) σ tp (.ok a) hX rs.2.2.1 hR.2.1 _ _ _ 2 6 p rfl rfl rfl (by omega) (by omega) hp) (fun r s1 h8 => ?_)
  obtain ⟨S1, ⟨t1, rfl, F1⟩ | ⟨t1, rfl, rfl⟩⟩ := h8
  · refine And.intro (fun q => absurd q (by decide)) (fun _ => ⟨rfl, rS.of S1 rfl, ?_⟩)
    have t1 : rs.2.2.1.2.2.length = 6 := t1
    have e9 : res = .error (5, p) := by rw [← hres]; unfold wkP; rw [if_pos t1]
    subst e9
    exact F1
  have t1 : ¬ rs.2.2.1.2.2.length = 6 := t1
  have c2 : gI s1 220 2 = nI rs.2.2.1.2.2.length := (hR.2.1.cnt (k := 2) (by omega)).1
  have hl6 := hR.2.1.1.2.2
  refine And.intro (fun _ => And.intro (vin 2 6 rfl rfl) ?_) (fun q => absurd rfl q)
  refine mcall (c_newName G g l (d+1) s1 tp (.ok a) hX hW rs.2.2.1 hR.2.1 (fun b hb => by cases hb; omega)) (fun r s2 h8 => ?_)
  obtain ⟨S2, X2, v, rfl, V2⟩ := h8
  show P 15 [some tM, some (iv (nI p)), some (iv (gI s1 220 2)), some (.inr (.inl v)), none, none, none, none] [] s2
  refine hP _ _ _ _ ?_
  have X2 : PX tp (posOf w1) s2 := by rw [← hw1]; exact X2
  refine mcall (c_asks_212 G g l (d+2) s2 tp _ X2 ((hW.keep S2 rfl).1 9 wBroad rfl)) (fun r s3 h8 => ?_)
  obtain ⟨rfl, S3, X3⟩ := h8
  have X3 : PX tp (bnd (posOf w1) (askW tp wBroad)) s3 := by
    revert X3
    revert X2
    generalize posOf w1 = S
    intro X2 X3
    cases S <;> exact X3
  have X3 : PX tp w2 s3 := by rw [← hw2]; exact X3
  have Q3 := S2.tr (S3.mono (fs' := [2, 4, 5, 6, 27]) (ids' := []) rfl rfl)
  refine mcall (c_number G g l (d+4) s3 tp _ X3 _ _ 1 99 rfl rfl (by omega) (by omega)) (fun r s4 h8 => ?_)
  obtain ⟨S4, X4, v4, rfl, V4⟩ := h8
  show P 24 [some tM, some (iv (nI p)), some (iv (gI s1 220 2)), some (.inr (.inl v)), none, some (iv v4), none, none] [] s4
  refine hP _ _ _ _ ?_
  have X4 : PX tp (posOf w3) s4 := by rw [← hw3, posOf_rP]; exact X4
  have Q4 := Q3.tr (S4.mono (fs' := [2, 4, 5, 6, 27]) (ids' := []) rfl rfl)
  refine mcall (c_asks_213 G g l (d+2) s4 tp _ X4 ((hW.keep Q4 rfl).1 10 wAt rfl)) (fun r s5 h8 => ?_)
  obtain ⟨rfl, S5, X5⟩ := h8
  have X5 : PX tp (bnd (posOf w3) (askW tp wAt)) s5 := by
    revert X5
    revert X4
    generalize posOf w3 = S
    intro X4 X5
    cases S <;> exact X5
  have X5 : PX tp w4 s5 := by rw [← hw4]; exact X5
  have Q5 := Q4.tr (S5.mono (fs' := [2, 4, 5, 6, 27]) (ids' := []) rfl rfl)
  refine mcall (c_placeTold G g l (d+1) s5 tp _ X5 (hW.keep Q5 rfl) rs.2.2.1 (hR.2.1.keep Q5 rfl) (hle X5) _ none (fun _ k hk => some_k k hk)) (fun r s6 h8 => ?_)
  obtain ⟨S6, X6, v6, rfl, V6⟩ := h8
  show P 32 [some tM, some (iv (nI p)), some (iv (gI s1 220 2)), some (.inr (.inl v)), none, some (iv v4), some (iv v6), none] [] s6
  refine hP _ _ _ _ ?_
  have X6 : PX tp (posOf w5) s6 := by rw [← hw5, posOf_rP]; exact X6
  have Q6 := Q5.tr S6
  refine mcall (c_asks_206 G g l (d+2) s6 tp _ X6 ((hW.keep Q6 rfl).1 3 wTo rfl)) (fun r s7 h8 => ?_)
  obtain ⟨rfl, S7, X7⟩ := h8
  have X7 : PX tp (bnd (posOf w5) (askW tp wTo)) s7 := by
    revert X7
    revert X6
    generalize posOf w5 = S
    intro X6 X7
    cases S <;> exact X7
  have X7 : PX tp w6 s7 := by rw [← hw6]; exact X7
  have Q7 := Q6.tr (S7.mono (fs' := [2, 4, 5, 6, 27]) (ids' := []) rfl rfl)
  have hv6 : (∃ b, w6 = .ok b) → v6 = nI (vlO w5) ∧ vlO w5 < rs.2.2.1.1.length := by
    rintro ⟨b, hb⟩
    obtain ⟨b5, h5, -⟩ := bnd_ok (hw6.trans hb)
    obtain ⟨z5, h5⟩ := posOf_ok h5
    obtain ⟨a4, h4, k5⟩ := rP_ok (hw5.trans h5)
    have := V6 a4 _ h4 k5
    rw [h5]
    exact ⟨this, (plcF_ok k5).1⟩
  refine mcall (c_placeTold G g l (d+1) s7 tp _ X7 (hW.keep Q7 rfl) rs.2.2.1 (hR.2.1.keep Q7 rfl) (hle X7) _ (some (vlO w5)) (fun hs k hk => by
    have h9 := hv6 hs
    have := hR.2.1.1.1
    rw [h9.1, nI_eq (by omega) (by omega)]
    exact ⟨fun e => by rw [e], fun e => (Option.some.inj e).symm⟩)) (fun r s8 h8 => ?_)
  obtain ⟨S8, X8, v8, rfl, V8⟩ := h8
  show P 40 [some tM, some (iv (nI p)), some (iv (gI s1 220 2)), some (.inr (.inl v)), none, some (iv v4), some (iv v6), some (iv v8)] [] s8
  refine hP _ _ _ _ ?_
  have X8 : PX tp (posOf w7) s8 := by rw [← hw7, posOf_rP]; exact X8
  have Q8 := Q7.tr S8
  cases h7 : w7 with
  | error f =>
    rw [h7] at X8
    refine And.intro (fun q => absurd q (pf_bad X8)) (fun _ => ⟨rfl, rS.of Q8 rfl, ?_⟩)
    have e9 : res = .error f := by rw [← hres]; unfold wkP; rw [if_neg t1, ew7, h7]
    subst e9
    exact X8
  | ok y =>
    rw [h7] at X8
    have e9 : res = .ok ((vlO w1, vlO w3, vlO w5, y.1), y.2) := by rw [← hres]; unfold wkP; rw [if_neg t1, ew7, h7, ew1, ew3, ew5]
    have k9 := wkP_ok (hres.trans e9)
    subst e9
    obtain ⟨a6, h6, k7⟩ := rP_ok (hw7.trans h7)
    have g6 := hv6 ⟨a6, h6⟩
    obtain ⟨b6, h5, -⟩ := bnd_ok (hw6.trans h6)
    obtain ⟨z5, h5⟩ := posOf_ok h5
    obtain ⟨a4, h4, -⟩ := rP_ok (hw5.trans h5)
    obtain ⟨b4, h3, -⟩ := bnd_ok (hw4.trans h4)
    obtain ⟨z3, h3⟩ := posOf_ok h3
    obtain ⟨a2, h2, k3⟩ := rP_ok (hw3.trans h3)
    obtain ⟨b2, h1, -⟩ := bnd_ok (hw2.trans h2)
    obtain ⟨z1, h1⟩ := posOf_ok h1
    have e1 : v = lN (vlO w1) := by rw [V2 a _ rfl (hw1.trans h1), h1]; rfl
    have e3 : v4 = nI (vlO w3) := by rw [V4 a2 _ h2 k3, h3]; rfl
    have e7 : v8 = nI y.1 := V8 a6 y h6 k7
    have R8 := hR.keep Q8
    have c2' : gI s8 220 2 = nI rs.2.2.1.2.2.length := (R8.2.1.cnt (k := 2) (by omega)).1
    generalize hm : rs.2.2.1.2.2.length = m at *
    have i1 : nI 24 + gI s1 220 2 = nI (24 + m) := by rw [c2, nI_add]
    have i2 : nI 3 * gI s1 220 2 = nI (3 * m) := by rw [c2, pk_mul]
    have i3 : nI 3 * gI s1 220 2 + nI 1 = nI (3 * m + 1) := by rw [c2, nI_ix]
    have i4 : nI 3 * gI s1 220 2 + nI 2 = nI (3 * m + 2) := by rw [c2, nI_ix]
    refine And.intro (fun _ => ?_) (fun q => absurd (PE.bad0 X8) q)
    show P 44 [some tM, some (iv (nI p)), some (iv (gI s1 220 2)), some (.inr (.inl v)), none, some (iv v4), some (iv v6), some (iv v8)] [] s8
    refine hP _ _ _ _ ?_
    refine And.intro (show vp_in (nI 24 + gI s1 220 2) 72 from by rw [i1]; exact vinN (by omega) (by decide)) ?_
    refine And.intro ?_ ?_
    · show vp_in (nI 3 * gI s1 220 2) 36
      rw [i2]; exact vinN (by omega) (by decide)
    refine And.intro ?_ ?_
    · show vp_in (nI 3 * gI s1 220 2 + nI 1) 36
      rw [i3]; exact vinN (by omega) (by decide)
    refine And.intro ?_ ?_
    · show vp_in (nI 3 * gI s1 220 2 + nI 2) 36
      rw [i4]; exact vinN (by omega) (by decide)
    refine And.intro (vin 2 6 rfl rfl) (And.intro (vin 2 6 rfl rfl) ?_)
    show none = none ∧ rS s1 (sI (sI (sI (sI (sL s8 221 (nI 24 + gI s1 220 2).toNatClampNeg v) 223 (nI 3 * gI s1 220 2).toNatClampNeg v4) 223 (nI 3 * gI s1 220 2 + nI 1).toNatClampNeg v6) 223 (nI 3 * gI s1 220 2 + nI 2).toNatClampNeg v8) 220 2 (gI s8 220 2 + nI 1)) ∧ PX tp (.ok y.2) (sI (sI (sI (sI (sL s8 221 (nI 24 + gI s1 220 2).toNatClampNeg v) 223 (nI 3 * gI s1 220 2).toNatClampNeg v4) 223 (nI 3 * gI s1 220 2 + nI 1).toNatClampNeg v6) 223 (nI 3 * gI s1 220 2 + nI 2).toNatClampNeg v8) 220 2 (gI s8 220 2 + nI 1)) ∧ MRS (addW rs (vlO w1, vlO w3, vlO w5, y.1)) C (sI (sI (sI (sI (sL s8 221 (nI 24 + gI s1 220 2).toNatClampNeg v) 223 (nI 3 * gI s1 220 2).toNatClampNeg v4) 223 (nI 3 * gI s1 220 2 + nI 1).toNatClampNeg v6) 223 (nI 3 * gI s1 220 2 + nI 2).toNatClampNeg v8) 220 2 (gI s8 220 2 + nI 1))
    rw [i1, i3, i4, i2, clN (by omega), clN (by omega), clN (by omega), clN (by omega), e1, e3, g6.1, e7, c2', nI_add]
    generalize ht : sI (sI (sI (sI (sL s8 221 (24 + m) (lN (vlO w1))) 223 (3 * m) (nI (vlO w3))) 223 (3 * m + 1) (nI (vlO w5))) 223 (3 * m + 2) (nI y.1)) 220 2 (nI (m + 1)) = t
    have hS9 : mS [] [220, 221, 223] s8 t := by rw [← ht]; exact ((((mS.rf.al rfl).a rfl).a rfl).a rfl).a rfl
    have g0 : ∀ j, j ≠ 2 → gI t 220 j = gI s8 220 j := fun j hj => by rw [← ht, gI_sI, if_neg (by omega), gI_sI, if_neg (by omega), gI_sI, if_neg (by omega), gI_sI, if_neg (by omega)]; rfl
    have g1 : gI t 220 2 = nI (m + 1) := by rw [← ht, gI_sI, if_pos ⟨rfl, rfl⟩]
    have gl : ∀ i, gL t 221 i = if i = 24 + m then lN (vlO w1) else gL s8 221 i := fun i => by
      rw [← ht]
      show gL (sL s8 221 (24 + m) (lN (vlO w1))) 221 i = _
      rw [gL_sL]
      by_cases hi : i = 24 + m
      · rw [if_pos ⟨rfl, hi⟩, if_pos hi]
      · rw [if_neg (fun q => hi q.2), if_neg hi]
    have gw : ∀ i, gI t 223 i = if i = 3 * m + 2 then nI y.1 else if i = 3 * m + 1 then nI (vlO w5) else if i = 3 * m then nI (vlO w3) else gI s8 223 i := fun i => by
      rw [← ht, gI_sI, if_neg (by omega), gI_sI, gI_sI, gI_sI]
      simp only [true_and]
      rfl
    refine ⟨rfl, ?_, X8.keep hS9 rfl, ?_⟩
    · rw [← ht]
      exact ((((((rS.of Q8 rfl).l (by omega)).i (by omega)).i (by omega)).i (by omega)).i (by omega))
    obtain ⟨h0, h1, h2, h3, h4, h5, ⟨h6, h6a, h6b⟩, h7⟩ := R8
    have hn9 := h0.n
    obtain ⟨r1, r2, ⟨r3, r4, r5⟩, r6, r7, r8, r9, r10⟩ := h0
    have hok : RSOK (addW rs (vlO w1, vlO w3, vlO w5, y.1)) := by
      refine ⟨r1, r2, ⟨r3, r4, by show (rs.2.2.1.2.2 ++ [_]).length ≤ 6; simp; omega⟩, r6, by show (rs.2.2.2.2 ++ [_]).length = (rs.2.2.1.2.2 ++ [_]).length; simp [r7], r8, mem_snoc r9 k9.2.1, nmOK hn9.1 hn9.2.1 (mem_snoc hn9.2.2 k9.2.2.2.1)⟩
    have hm9 : (nmK rs.2.2.1 2).length = m := hm
    refine ⟨hok, h1.add (k := 2) (v := vlO w1) (by omega) rfl (fun j hj hj0 => ?_) hok.2.2.1 k9.2.2.2.1.1 (by rw [hm9]; exact g1) (fun j hj hj0 => g0 j hj0) (by rw [hm9, gl, if_pos (by omega)]) (fun i hi => by rw [hm9] at hi; rw [gl, if_neg (by omega)]), by rw [hS9.i 200 33 rfl rfl]; exact h2, by rw [hS9.i 200 32 rfl rfl]; exact h3, fun k u hu => ?_, fun k u hu => ?_, ⟨by rw [hS9.i 200 35 rfl rfl]; exact h6, h6a, fun i u hu => by rw [hS9.ia 224 rfl rfl]; exact h6b i u hu⟩, fun k u hu => ?_⟩
    · have : j = 0 ∨ j = 1 := by omega
      rcases this with rfl | rfl <;> rfl
    · simp only [hS9.ia 222 rfl rfl]; exact h4 k u hu
    · have hu : (rs.2.2.2.2 ++ [(vlO w3, vlO w5, y.1)])[k]? = some u := hu
      rcases Nat.lt_trichotomy k m with q | q | q
      · rw [List.getElem?_append_left (by omega)] at hu
        rw [gw, gw, gw, if_neg (by omega), if_neg (by omega), if_neg (by omega), if_neg (by omega), if_neg (by omega), if_neg (by omega), if_neg (by omega), if_neg (by omega), if_neg (by omega)]
        exact h5 k u hu
      · rw [List.getElem?_append_right (by omega), show k - rs.2.2.2.2.length = 0 by omega] at hu
        cases hu
        subst q
        rw [gw, gw, gw, if_neg (by omega), if_neg (by omega), if_pos rfl, if_neg (by omega), if_pos rfl, if_pos rfl]
        exact ⟨rfl, rfl, rfl⟩
      · rw [List.getElem?_eq_none (by simp; omega)] at hu
        cases hu
    · simp only [hS9.ia 226 rfl rfl, hS9.ia 227 rfl rfl]; exact h7 k u hu
end NS_
