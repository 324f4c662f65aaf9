section MQ_
variable (G : CX) (g : GX) (l : Launch) (d : Nat) (σ : AS)
theorem wayF_st {T : Twn} {n : Nws} {rs : List Ride} {wo b src : Nat} {A : Nat → Nat} : ∀ (m p : Nat) (x : Nat × Nat), x ∈ wayF T n rs wo b A src m p → x.1 < Tns T
  | 0, p, x, h => by simp [wayF] at h
  | m+1, p, x, h => by
    unfold wayF at h
    split at h
    · simp at h
    · cases hb : back1 T n rs wo b A p with
      | none => rw [hb] at h; simp at h
      | some y =>
        rw [hb] at h
        rcases List.mem_cons.mp h with e | e
        · have := (backF_is _ _ _ hb).2.1
          rw [e]
          show y.1 < Tns T
          omega
        · exact wayF_st m _ x e
def okPar (T : Twn) (n : Nws) (a b : Int32) : Prop := inR a (Tnw T) = true ∧ btw b 0 48 = true ∧ EAw T n [] 99 a.toNatClampNeg (Nto n a.toNatClampNeg) ≠ NV
noncomputable def q_parade (T : Twn) (n : Nws) (a b : Int32) : Int32 := @ite _ (okPar T n a b) (Classical.propDecidable _) (optI (firstF (fun h => paradeF T n (Tbr T a.toNatClampNeg) b.toNatClampNeg (way0 T n a.toNatClampNeg).reverse h) 401 (Nhr n))) (- nI 1)
set_option maxHeartbeats 2000000 in
theorem c_parade (T : Twn) (n : Nws) (h : TN T n σ) (a b : Int32) : MC G g l (d+15) mX6_parade [tM, iv a, iv b] σ (fun r t => r = some (iv (q_parade T n a b)) ∧ mS [43, 47, 51] [228, 229, 232, 233, 234] σ t) := by
  have h12 := h.1.1
  have hh := h.2.1.1
  refine MC1 tX6_parade [14, 21] rfl okX6_parade rfl rfl rfl rfl (fun P hP => ?_)
  have no : ∀ τ, mS [43, 47, 51] [228, 229, 232, 233, 234] σ τ → ¬ okPar T n a b → P 14 [some tM, some (iv a), some (iv b), none] [] τ := by
    intro τ hS e
    exact hP _ _ _ _ ⟨by unfold q_parade; rw [if_neg e], hS⟩
  refine hP _ _ _ _ ?_
  refine mcall (c_isWalker G g l (d+12) σ T a h.2.2.1 h.1) (fun r s' h9 => ?_)
  obtain ⟨rfl, rfl⟩ := h9
  cases ha : inR a (Tnw T) with
  | false => exact And.intro (fun _ => no _ mS.rf (fun e => by have e1 := e.1; rw [ha] at e1; cases e1)) (fun q => absurd rfl q)
  | true =>
    refine And.intro (fun q => absurd q (by decide)) (fun _ => ?_)
    refine mcall (c_isIn G g l (d+13) _ _ _ _) (fun r s' h9 => ?_)
    obtain ⟨rfl, rfl⟩ := h9
    rw [btw_long (a := 0) (b := 48) (by decide) (by decide)]
    cases hb : btw b 0 48 with
    | false => exact And.intro (fun _ => no _ mS.rf (fun e => by have e1 := e.2.1; rw [hb] at e1; cases e1)) (fun q => absurd rfl q)
    | true =>
      refine And.intro (fun q => absurd q (by decide)) (fun _ => ?_)
      obtain ⟨w, hw, rfl⟩ := inR_of ha (by omega)
      obtain ⟨k, -, hk, rfl⟩ := btw_of hb (by decide)
      have cw : (nI w).toNatClampNeg = w := clN (by omega)
      have ck : (nI k).toNatClampNeg = k := clN (by omega)
      refine mcall (c_hasWay G g l d _ T n h _ w rfl hw) (fun r s2 h9 => ?_)
      obtain ⟨rfl, hS, -, -, -, hWy⟩ := h9
      by_cases hN : EAw T n [] 99 w (Nto n w) = NV
      · rw [decide_eq_false (fun e => e hN)]
        exact And.intro (fun q => absurd rfl q) (fun _ => no _ hS (fun e => by have e1 := e.2.2; rw [cw] at e1; exact e1 hN))
      · rw [decide_eq_true hN]
        obtain ⟨hW, hl⟩ := hWy hN
        have hW : MWay (way0 T n w) s2 := hW
        have hl : (way0 T n w).length ≤ 8 := hl
        have hst : ∀ (k : Nat) (x : Nat × Nat), (way0 T n w)[k]? = some x → x.1 < Tns T := fun k x hx => wayF_st _ _ x (List.mem_of_getElem? hx)
        refine And.intro (fun _ => ?_) (fun q => absurd q (by decide))
        have e : q_parade T n (nI w) (nI k) = optI (firstF (fun h => paradeF T n (Tbr T w) k (way0 T n w).reverse h) 401 (Nhr n)) := by
          unfold q_parade
          rw [if_pos ⟨ha, hb, by rw [cw]; exact hN⟩, cw, ck]
        have key : ∀ (m j : Nat) (x : Int32) (τ : AS), x = nI j → j + m = Nhr n + 401 → mS [43, 47, 51] [228, 229, 232, 233, 234] s' τ → MWay (way0 T n w) τ → firstF (fun h => paradeF T n (Tbr T w) k (way0 T n w).reverse h) 401 (Nhr n) = firstF (fun h => paradeF T n (Tbr T w) k (way0 T n w).reverse h) m j → P 21 [some tM, some (iv (nI w)), some (iv (nI k)), some (iv x)] [] τ := by
          intro m
          induction m with
          | zero =>
            intro j x τ hx hm hS hWt hf
            subst hx
            refine hP _ _ _ _ (And.intro (vin 0 31 rfl rfl) (And.intro (fun _ => ⟨by rw [e, hf]; rfl, hS⟩) (fun q => ?_)))
            have q : ¬ gI τ 230 0 + nI 400 < nI j := q
            rw [(h.2.2.2.keep hS rfl).1, nI_add, nI_ltI (by omega) (by omega)] at q
            omega
          | succ m ih =>
            intro j x τ hx hm hS hWt hf
            subst hx
            refine hP _ _ _ _ (And.intro (vin 0 31 rfl rfl) (And.intro (fun q => ?_) (fun _ => ?_)))
            · have q : gI τ 230 0 + nI 400 < nI j := q
              rw [(h.2.2.2.keep hS rfl).1, nI_add, nI_ltI (by omega) (by omega)] at q
              omega
            · refine mcall (c_isParade G g l (d+7) τ T n (h.keep hS rfl rfl) (way0 T n w) hWt (by omega) hst _ _ _ w k j rfl rfl rfl hw hk (by omega)) (fun r s3 h9 => ?_)
              obtain ⟨rfl, h9⟩ := h9
              have hS2 := hS.tr (h9.mono rfl rfl)
              cases hp : paradeF T n (Tbr T w) k (way0 T n w).reverse j with
              | true =>
                refine And.intro (fun q => absurd q (by decide)) (fun _ => ⟨?_, hS2⟩)
                rw [e, hf]
                unfold firstF
                rw [if_pos hp]
                rfl
              | false =>
                refine And.intro (fun _ => ?_) (fun q => absurd rfl q)
                refine ih (j+1) _ s3 (nI_add j 1) (by omega) hS2 (hWt.keep h9 rfl rfl) ?_
                rw [hf]
                conv => lhs; unfold firstF
                rw [if_neg (by rw [hp]; decide)]
        refine And.intro (vin 0 31 rfl rfl) ?_
        exact key 401 (Nhr n) _ s2 (h.2.2.2.keep hS rfl).1 rfl hS hW rfl
end MQ_
