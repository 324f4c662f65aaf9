section MY
variable (G : CX) (g : GX) (l : Launch) (d : Nat) (σ : AS)
set_option maxHeartbeats 2000000 in
theorem c_on (T : Twn) (ks : List Nws) (h : MTn T σ) (hT : TOK T) (hK : MKp T ks σ) (tp : List Nat) (hp : MTp tp σ) : MC G g l (d+3) mX6_on [tM] σ (fun r t => MTp [] t ∧ if okOn T tp = true then (r = some (iv (nI 1)) ∧ mS [1, 63] [230] σ t ∧ MNw T (onN T tp) t ∧ MKp T [] t) else (r = some (iv (nI 0)) ∧ mS [1] [202] σ t ∧ RefInc 5 σ t)) := by
  have hl := hp.1.1
  have h12 := hT.1
  refine MC1 tX6_on [37, 57] rfl okX6_on rfl rfl rfl rfl (fun P hP => hP _ _ _ _ ?_)
  have S1 : mS [1] [] σ (sI σ 200 1 (nI 0)) := mS.rf.f rfl
  have B1 : MTb tp (sI σ 200 1 (nI 0)) := hp.1.keep S1 rfl
  have em : ∀ τ, gI τ 200 1 = nI 0 → MTp [] τ := fun τ e => ⟨⟨Nat.zero_le _, fun k x q => by cases q⟩, e⟩
  refine mcall (c_isTold G g l d (sI σ 200 1 (nI 0)) T (h.keep S1 rfl) hT tp B1 _ hp.2) (fun r s' h9 => ?_)
  obtain ⟨rfl, rfl⟩ := h9
  cases hk : okOn T tp with
  | false =>
    refine And.intro (fun q => absurd rfl q) (fun _ => And.intro (vin 5 6 rfl rfl) (And.intro (vin 5 6 rfl rfl) ⟨nar0, em _ rfl, ?_⟩))
    show if false = true then _ else _
    rw [if_neg (by decide)]
    exact ⟨rfl, (S1.mono rfl rfl).a rfl, RefInc.mk 5 _⟩
  | true =>
    refine And.intro (fun _ => And.intro (vin 0 1600 rfl rfl) (And.intro (vin 1 1600 rfl rfl) (And.intro (vin 0 31 rfl rfl) ?_))) (fun q => absurd q (by decide))
    have hk' := hk
    unfold okOn at hk'
    rw [Bool.and_eq_true, decide_eq_true_eq] at hk'
    obtain ⟨⟨n0, n1, n2⟩, -⟩ := hk'
    have kc : onK T (Tnw T) = 2 + Tns T + 4 * Tnw T := rfl
    have key2 : ∀ (m j : Nat) (x3 : Option AV) (τ : AS), j + m = Tnw T → mS [1, 63] [230] σ τ → gI τ 200 1 = nI 0 → gI τ 230 0 = nI (Nhr (onN T tp)) → (∀ s, s < Tns T → gI τ 230 (1 + s) = nI (Nsh (onN T tp) s)) → (∀ w, w < j → gI τ 230 (13 + 3 * w) = nI (Nat_ (onN T tp) w) ∧ gI τ 230 (13 + 3 * w + 1) = nI (Nto (onN T tp) w) ∧ gI τ 230 (13 + 3 * w + 2) = nI (Nfr (onN T tp) w)) → P 57 [some tM, some (iv (gI σ 200 1)), some (iv (nI j)), x3] [] τ := by
      intro m
      induction m with
      | zero =>
        intro j x3 τ hm hS ht e0 e1 e2
        have hj : j = Tnw T := by omega
        subst hj
        refine hP _ _ _ _ ?_
        refine mcall (c_walkerMany G g l (d+1) τ) (fun r s6 h9 => ?_)
        obtain ⟨rfl, rfl⟩ := h9
        refine And.intro (fun _ => ⟨nar1, em _ ht, ?_⟩) (fun q => absurd (by rw [(h.keep hS rfl).2.2.1]; exact Int32.le_refl _) q)
        show if okOn T tp = true then _ else _
        rw [if_pos hk]
        refine ⟨rfl, hS.f rfl, ⟨e0, e1, e2⟩, ?_⟩
        obtain ⟨-, nw, k1, k2, -, -⟩ := hK
        exact ⟨Nat.zero_le _, nw, k1, by rw [gI_sI, if_neg (by decide), hS.i 200 64 rfl rfl]; exact k2, rfl, fun j x e => by cases e⟩
      | succ m ih =>
        intro j x3 τ hm hS ht e0 e1 e2
        have hj : j < Tnw T := by omega
        have Bt : MTb tp τ := hp.1.keep hS rfl
        refine hP _ _ _ _ ?_
        refine mcall (c_walkerMany G g l (d+1) τ) (fun r s6 h9 => ?_)
        obtain ⟨rfl, rfl⟩ := h9
        rw [(h.keep hS rfl).2.2.1]
        refine And.intro (fun q => absurd q (nI_ge (by omega) (by omega))) (fun _ => ?_)
        refine mcall (c_streetMany G g l (d+1) s6) (fun r s7 h9 => ?_)
        obtain ⟨rfl, rfl⟩ := h9
        rw [(h.keep hS rfl).2.1]
        have ek : nI 2 + nI (Tns T) + nI 4 * nI j = nI (onK T j) := by rw [nI_add, pk_mul, nI_add]; rfl
        have kj : onK T j = 2 + Tns T + 4 * j := rfl
        have ek1 : nI 2 + nI (Tns T) + nI 4 * nI j + nI 1 = nI (onK T j + 1) := by rw [ek, nI_add]
        have ek2 : nI 2 + nI (Tns T) + nI 4 * nI j + nI 2 = nI (onK T j + 2) := by rw [ek, nI_add]
        have ek3 : nI 2 + nI (Tns T) + nI 4 * nI j + nI 3 = nI (onK T j + 3) := by rw [ek, nI_add]
        have a0 := Bt.at (k := onK T j) (by omega)
        have a1 := Bt.at (k := onK T j + 1) (by omega)
        have a2 := Bt.at (k := onK T j + 2) (by omega)
        have a3 := Bt.at (k := onK T j + 3) (by omega)
        have wx0 : nI 13 + nI 3 * nI j = nI (13 + 3 * j) := ix2 13 3 j
        have wx1 : nI 13 + nI 3 * nI j + nI 1 = nI (13 + 3 * j + 1) := ix3 13 3 j 1
        have wx2 : nI 13 + nI 3 * nI j + nI 2 = nI (13 + 3 * j + 2) := ix3 13 3 j 2
        have v0 : vp_in (nI 2 + nI (Tns T) + nI 4 * nI j) 1600 := by rw [ek]; exact vinN (by omega) (by decide)
        have v1 : vp_in (nI 2 + nI (Tns T) + nI 4 * nI j + nI 1) 1600 := by rw [ek1]; exact vinN (by omega) (by decide)
        have v2 : vp_in (nI 2 + nI (Tns T) + nI 4 * nI j + nI 2) 1600 := by rw [ek2]; exact vinN (by omega) (by decide)
        have v3 : vp_in (nI 2 + nI (Tns T) + nI 4 * nI j + nI 3) 1600 := by rw [ek3]; exact vinN (by omega) (by decide)
        have u0 : vp_in (nI 13 + nI 3 * nI j) 31 := by rw [wx0]; exact vinN (by omega) (by decide)
        have u1 : vp_in (nI 13 + nI 3 * nI j + nI 1) 31 := by rw [wx1]; exact vinN (by omega) (by decide)
        have u2 : vp_in (nI 13 + nI 3 * nI j + nI 2) 31 := by rw [wx2]; exact vinN (by omega) (by decide)
        refine And.intro v0 (And.intro u0 (And.intro v1 (And.intro u1 (And.intro v2 (And.intro v3 (And.intro u2 ?_))))))
        show P 57 [some tM, some (iv (gI σ 200 1)), some (iv (nI j + nI 1)), some (iv (nI 2 + nI (Tns T) + nI 4 * nI j))] [] (sI (sI (sI s7 230 (nI 13 + nI 3 * nI j).toNatClampNeg (gI s7 201 (nI 2 + nI (Tns T) + nI 4 * nI j).toNatClampNeg)) 230 (nI 13 + nI 3 * nI j + nI 1).toNatClampNeg (gI s7 201 (nI 2 + nI (Tns T) + nI 4 * nI j + nI 1).toNatClampNeg)) 230 (nI 13 + nI 3 * nI j + nI 2).toNatClampNeg (nI 256 * gI s7 201 (nI 2 + nI (Tns T) + nI 4 * nI j + nI 2).toNatClampNeg + gI s7 201 (nI 2 + nI (Tns T) + nI 4 * nI j + nI 3).toNatClampNeg))
        rw [nI_add j 1, ek1, ek2, ek3, ek, wx1, wx2, wx0, clN (by omega), clN (by omega), clN (by omega), clN (by omega), clN (by omega), clN (by omega), clN (by omega), a0.1, a1.1, a2.1, a3.1, pk_mul, nI_add]
        refine ih (j+1) _ _ (by omega) (((hS.a rfl).a rfl).a rfl) ht ?_ (fun s hs => ?_) (fun w hw => ?_)
        · rw [gI_sI, if_neg (by omega), gI_sI, if_neg (by omega), gI_sI, if_neg (by omega)]
          exact e0
        · rw [gI_sI, if_neg (by omega), gI_sI, if_neg (by omega), gI_sI, if_neg (by omega)]
          exact e1 s hs
        · rw [gI_sI, gI_sI, gI_sI, gI_sI, gI_sI, gI_sI, gI_sI, gI_sI, gI_sI]
          by_cases e : w = j
          · subst e
            rw [if_neg (by omega), if_neg (by omega), if_pos ⟨rfl, rfl⟩, if_neg (by omega), if_pos ⟨rfl, rfl⟩, if_pos ⟨rfl, rfl⟩]
            exact ⟨rfl, rfl, rfl⟩
          · rw [if_neg (by omega), if_neg (by omega), if_neg (by omega), if_neg (by omega), if_neg (by omega), if_neg (by omega), if_neg (by omega), if_neg (by omega), if_neg (by omega)]
            exact e2 w (by omega)
    have key1 : ∀ (m j : Nat) (τ : AS), j + m = Tns T → mS [1, 63] [230] σ τ → gI τ 200 1 = nI 0 → gI τ 230 0 = nI (Nhr (onN T tp)) → (∀ s, s < j → gI τ 230 (1 + s) = nI (Nsh (onN T tp) s)) → P 37 [some tM, some (iv (gI σ 200 1)), some (iv (nI j)), none] [] τ := by
      intro m
      induction m with
      | zero =>
        intro j τ hm hS ht e0 e1
        have hj : j = Tns T := by omega
        subst hj
        refine hP _ _ _ _ ?_
        refine mcall (c_streetMany G g l (d+1) τ) (fun r s6 h9 => ?_)
        obtain ⟨rfl, rfl⟩ := h9
        refine And.intro (fun _ => ?_) (fun q => absurd (by rw [(h.keep hS rfl).2.1]; exact Int32.le_refl _) q)
        exact key2 (Tnw T) 0 _ s6 (by omega) hS ht e0 e1 (fun w hw => by omega)
      | succ m ih =>
        intro j τ hm hS ht e0 e1
        have hj : j < Tns T := by omega
        have Bt : MTb tp τ := hp.1.keep hS rfl
        have a0 := Bt.at (k := 2 + j) (by omega)
        refine hP _ _ _ _ ?_
        refine mcall (c_streetMany G g l (d+1) τ) (fun r s6 h9 => ?_)
        obtain ⟨rfl, rfl⟩ := h9
        rw [(h.keep hS rfl).2.1]
        have e4 : nI 2 + nI j = nI (2 + j) := nI_add _ _
        have e5 : nI 1 + nI j = nI (1 + j) := nI_add _ _
        refine And.intro (fun q => absurd q (nI_ge (by omega) (by omega))) (fun _ => And.intro (show vp_in (nI 2 + nI j) 1600 from by rw [e4]; exact vinN (by omega) (by decide)) (And.intro (show vp_in (nI 1 + nI j) 31 from by rw [e5]; exact vinN (by omega) (by decide)) ?_))
        show P 37 [some tM, some (iv (gI σ 200 1)), some (iv (nI j + nI 1)), none] [] (sI s6 230 (nI 1 + nI j).toNatClampNeg (gI s6 201 (nI 2 + nI j).toNatClampNeg))
        rw [nI_add j 1, e4, e5, clN (by omega), clN (by omega), a0.1]
        refine ih (j+1) _ (by omega) (hS.a rfl) ht ?_ (fun s hs => ?_)
        · rw [gI_sI, if_neg (by omega)]
          exact e0
        · rw [gI_sI]
          by_cases e : s = j
          · rw [if_pos ⟨rfl, by omega⟩, e]
            rfl
          · rw [if_neg (by omega)]
            exact e1 s (by omega)
    have a0 := B1.at (k := 0) (by omega)
    have a1 := B1.at (k := 1) (by omega)
    refine key1 (Tns T) 0 _ (by omega) ((S1.mono rfl rfl).a rfl) rfl ?_ (fun s hs => by omega)
    show nI 256 * gI (sI σ 200 1 (nI 0)) 201 0 + gI (sI σ 200 1 (nI 0)) 201 1 = nI (256 * tp[0]! + tp[1]!)
    rw [a0.1, a1.1, pk_mul, nI_add]
end MY
