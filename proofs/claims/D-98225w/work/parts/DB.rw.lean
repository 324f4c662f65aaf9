section RB_
variable (G : CX) (g : GX) (l : Launch) (d : Nat) (σ : AS)
set_option maxHeartbeats 2000000 in
theorem x_rows (T : Twn) (n : Nws) (h : XB T n σ) (a b : Int32) : MC G g l (d+64) mX0_rows [tX, iv a, iv b] σ (fun r t => r = some (iv (q_rows T n a b)) ∧ xS oFs oIds σ t ∧ gI t 0 11 = nI 0) := by
  have h12 := h.1.1.1
  refine MC1 tX0_rows [25, 27] rfl okX0_rows rfl rfl rfl rfl (fun P hP => ?_)
  have no : okRows T a b = false → P 25 [some tX, some (iv a), some (iv b)] [] σ := by
    intro e
    refine hP _ _ _ _ ⟨?_, xS.rf, h.2.1.1⟩
    unfold q_rows
    rw [if_neg (by rw [e]; decide)]
  have yes : okRows T a b = true → P 27 [some tX, some (iv a), some (iv b)] [] σ := by
    intro ok
    have ok0 := ok
    unfold okRows at ok0
    simp only [Bool.and_eq_true, Bool.or_eq_true, decide_eq_true_eq] at ok0
    obtain ⟨oa, ow, ob⟩ := ok0
    obtain ⟨k, hk, hk4, rfl⟩ := btw_of oa (by decide)
    have ck : (nI k).toNatClampNeg = k := clN (by omega)
    rw [ck] at ow ob
    have eq : q_rows T n (nI k) b = rowI b (rowsF T n k) := by unfold q_rows; rw [if_pos ok, ck]
    refine hP _ _ _ _ ?_
    have S0 : xS oFs oIds σ (sI σ 0 24 (- nI 1)) := xS.rf.f rfl
    have hok := cmpF_ok hk hk4
    have e4 : d + 63 = d + (4 - k) + k + 59 := by omega
    have hC := x_orders G g l (d + (4 - k)) T n k hk hk4 ow k (sI σ 0 24 (- nI 1)) [] none (nI 0) (nI k) (nI 0) (h.1.xso S0) (XRd.nil (by rw [gI_sI, if_neg (by omega)]; exact h.2.1.1)) (h.2.2.xso S0) (by simp) (fun w hw => by simp at hw) rfl rfl (fun w hw => by rw [hasB_nil (by omega)]; simp) (fun i x hx => by simp at hx) (by show gI _ 0 24 = - nI 1; rw [gI_sI, if_pos ⟨rfl, rfl⟩]) hok
    rw [← e4] at hC
    refine mcall hC (fun r s1 h9 => ?_)
    obtain ⟨rfl, S1, z1, B1, -⟩ := h9
    have SS := S0.tr S1
    have B1 : XBe k (rowsF T n k) s1 := by
      have e : (cmpF k k []).foldl (rowStep T n k) none = rowsF T n k := by rw [cmpF_perms hk hk4]; rfl
      rw [e] at B1
      exact B1
    generalize hrf : rowsF T n k = R at B1 eq
    cases R with
    | none =>
      have h24 : gI s1 0 24 = - nI 1 := B1
      refine And.intro (fun _ => ⟨?_, SS, z1⟩) (fun q => absurd h24 q)
      rw [eq]
      exact congrArg (fun z => some (iv z)) h24
    | some z =>
      obtain ⟨h24, h25, y1, y2, zz⟩ := B1
      refine And.intro (fun q => absurd (show gI s1 0 24 = - nI 1 from q) (by rw [h24]; exact nI_neg1 (by omega))) (fun _ => And.intro (fun q => ?_) (fun q => ⟨?_, SS, z1⟩))
      · have hnb : ¬ b = - nI 1 := q
        rcases ob with ob | ob | ob
        · exact absurd ob hnb
        · obtain ⟨j, hj, rfl⟩ := inR_of ob (by omega)
          have cj : (nI j).toNatClampNeg = j := clN (by omega)
          refine And.intro (fun q2 => absurd q2 (nI_ge (by omega) (by omega))) (fun _ => And.intro (show vp_in (nI j) 4 from vinN (by omega) (by decide)) ⟨?_, SS, z1⟩)
          show some (iv (gI s1 65 (nI j).toNatClampNeg)) = _
          rw [cj, (zz j hj).1, eq]
          show _ = some (iv (if _ then _ else _))
          rw [if_neg hnb, cj, if_pos (by omega)]
        · obtain ⟨j, hj, hj2, rfl⟩ := btw_of ob (by omega)
          have cj : (nI j).toNatClampNeg = j := clN (by omega)
          have e10 : nI j - nI 10 = nI (j - 10) := nI_s1 j 10 hj
          refine And.intro (fun _ => And.intro (show vp_in (nI j - nI 10) 4 from by rw [e10]; exact vinN (by omega) (by decide)) ⟨?_, SS, z1⟩) (fun q2 => absurd (nI_le (by omega) (by omega)) q2)
          show some (iv (gI s1 66 (nI j - nI 10).toNatClampNeg)) = _
          rw [e10, clN (show j - 10 < 2147483648 by omega), (zz (j-10) (by omega)).2, eq]
          show _ = some (iv (if _ then _ else _))
          rw [if_neg hnb, cj, if_neg (by omega)]
      · have hb : b = - nI 1 := q
        rw [eq]
        show some (iv (gI s1 0 24)) = some (iv (if _ then _ else _))
        rw [if_pos hb, h24]
  refine hP _ _ _ _ ?_
  refine mcall (x_walkerMany G g l (d+61) σ T h.1.2.2.1) (fun r s1 h9 => ?_)
  obtain ⟨rfl, e9⟩ := h9
  subst e9
  refine mcall (j_minI G g l (d+62) s1 _ _ 4 (Tnw T) rfl rfl (by omega) (by omega)) (fun r s2 h9 => ?_)
  obtain ⟨rfl, e9⟩ := h9
  subst e9
  refine mcall (x_btw G g l (d+62) s2 a _ _ 1 (min 4 (Tnw T)) rfl rfl (by omega) (by omega)) (fun r s3 h9 => ?_)
  obtain ⟨rfl, e9⟩ := h9
  subst e9
  cases ha : btw a 1 (min 4 (Tnw T)) with
  | false =>
    refine And.intro (fun _ => no ?_) (fun q => absurd rfl q)
    cases hh : okRows T a b with
    | false => rfl
    | true =>
      unfold okRows at hh
      simp only [Bool.and_eq_true, decide_eq_true_eq] at hh
      obtain ⟨k, hk, hk4, rfl⟩ := btw_of hh.1 (by decide)
      have := hh.2.1
      rw [clN (by omega)] at this
      unfold btw at ha
      rw [nI_toInt (by omega)] at ha
      have := of_decide_eq_false ha
      omega
  | true =>
    obtain ⟨k, hk, hk4, rfl⟩ := btw_of ha (by omega)
    have ck : (nI k).toNatClampNeg = k := clN (by omega)
    have eo : okRows T (nI k) b = (decide (b = - nI 1) || (inR b k || btw b 10 (k + 9))) := by
      unfold okRows
      rw [ck, show btw (nI k) 1 4 = true from by unfold btw; rw [nI_toInt (by omega)]; exact decide_eq_true (by omega), decide_eq_true (by omega : k ≤ Tnw T)]
      rfl
    refine And.intro (fun q => absurd q (by decide)) (fun _ => And.intro (fun q => yes ?_) (fun q => ?_))
    · have q : b = - nI 1 := q
      rw [eo, decide_eq_true q]; rfl
    · have q : ¬ b = - nI 1 := q
      refine mcall (x_is G g l (d+62) s3 b _ _) (fun r s4 h9 => ?_)
      obtain ⟨rfl, e9⟩ := h9
      subst e9
      rw [inR_is (n := k) (by omega) rfl]
      cases hb : inR b k with
      | true => exact And.intro (fun _ => yes (by rw [eo, hb, decide_eq_false q]; rfl)) (fun q => absurd q (by decide))
      | false =>
        refine And.intro (fun q => absurd rfl q) (fun _ => ?_)
        refine mcall (x_btw G g l (d+62) s4 b _ _ 10 (k + 9) rfl (by rw [nI_add, Nat.add_comm]) (by omega) (by omega)) (fun r s5 h9 => ?_)
        obtain ⟨rfl, e9⟩ := h9
        subst e9
        cases hb2 : btw b 10 (k + 9) with
        | true => exact And.intro (fun _ => yes (by rw [eo, hb, hb2, decide_eq_false q]; rfl)) (fun q => absurd q (by decide))
        | false => exact And.intro (fun q => absurd rfl q) (fun _ => no (by rw [eo, hb, hb2, decide_eq_false q]; rfl))
end RB_
