set_option maxRecDepth 100000
theorem ord_mem4 : ∀ v, v < 256 → isOrd 4 v = true → ∀ w, w < 4 → w ∈ ordL 4 v := by decide +kernel
theorem ord_mem3 : ∀ v, v < 27 → isOrd 3 v = true → ∀ w, w < 3 → w ∈ ordL 3 v := by decide +kernel
theorem ord_mem2 : ∀ v, v < 4 → isOrd 2 v = true → ∀ w, w < 2 → w ∈ ordL 2 v := by decide +kernel
theorem ord_mem1 : ∀ v, v < 1 → isOrd 1 v = true → ∀ w, w < 1 → w ∈ ordL 1 v := by decide +kernel
theorem ord_mem {k v : Nat} (hk : 1 ≤ k) (hk4 : k ≤ 4) (hv : v < k ^ k) (h : isOrd k v = true) : ∀ w, w < k → w ∈ ordL k v := by
  have : k = 1 ∨ k = 2 ∨ k = 3 ∨ k = 4 := by omega
  rcases this with rfl | rfl | rfl | rfl
  · exact ord_mem1 v hv h
  · exact ord_mem2 v hv h
  · exact ord_mem3 v hv h
  · exact ord_mem4 v hv h
theorem pow_self_le {k : Nat} (hk4 : k ≤ 4) : ∀ i, i ≤ k → k ^ i ≤ 256 := by
  have : k = 0 ∨ k = 1 ∨ k = 2 ∨ k = 3 ∨ k = 4 := by omega
  rcases this with rfl | rfl | rfl | rfl | rfl <;> decide
section RX_
variable (G : CX) (g : GX) (l : Launch) (d : Nat) (σ : AS)
theorem in1_long {b : Int32} {k : Nat} (hk : k < 1000) : decide (- lN 1 ≤ b.toInt64 ∧ b.toInt64 ≤ (nI k - nI 1).toInt64) = (decide (b = - nI 1) || inR b k) := by
  have e : (nI k - nI 1).toInt = (k : Int) - 1 := by
    have := pk_sub_toInt (a := k) (b := 1) (by omega) (by omega)
    simpa using this
  have e2 : (- lN 1).toInt = -1 := by decide
  have e3 : (- nI 1).toInt = -1 := by decide
  have hb : b = - nI 1 ↔ b.toInt = -1 := ⟨fun q => by rw [q, e3], fun q => Int32.toInt_inj.mp (by rw [q, e3])⟩
  have el : (- lN 1 ≤ b.toInt64 ∧ b.toInt64 ≤ (nI k - nI 1).toInt64) ↔ (-1 ≤ b.toInt ∧ b.toInt ≤ (k : Int) - 1) := by
    rw [Int64.le_iff_toInt_le, Int64.le_iff_toInt_le, Int32.toInt_toInt64, Int32.toInt_toInt64, e, e2]
  rw [decide_eq_decide.mpr el]
  unfold inR
  by_cases h1 : b = - nI 1
  · have := hb.mp h1
    rw [decide_eq_true h1, Bool.true_or, decide_eq_true (by omega)]
  · have h2 : ¬ b.toInt = -1 := fun q => h1 (hb.mpr q)
    rw [decide_eq_false h1, Bool.false_or]
    apply decide_eq_decide.mpr
    omega
set_option maxHeartbeats 2000000 in
theorem c_rows (T : Twn) (n : Nws) (h : TN T n σ) (a b : Int32) : MC G g l (d+15) mX6_rows [tM, iv a, iv b] σ (fun r t => r = some (iv (q_rows T n a b)) ∧ mS [43, 47, 51, 57, 58] [228, 229, 231, 232, 233, 234, 236, 237, 238, 239] σ t) := by
  have h12 := h.1.1
  refine MC1 tX6_rows [28, 30, 34, 51, 66, 97] rfl okX6_rows rfl rfl rfl rfl (fun P hP => ?_)
  have no : okRows T a b = false → P 28 [some tM, some (iv a), some (iv b), none, none] [] σ := by
    intro e
    refine hP _ _ _ _ ⟨?_, mS.rf⟩
    unfold q_rows
    rw [if_neg (by rw [e]; decide)]
  have yes : okRows T a b = true → P 30 [some tM, some (iv a), some (iv b), none, none] [] σ := by
    intro ok
    have ok0 := ok
    unfold okRows at ok0
    simp only [Bool.and_eq_true, Bool.or_eq_true, decide_eq_true_eq] at ok0
    obtain ⟨oa, ow, ob⟩ := ok0
    obtain ⟨k, hk, hk4, rfl⟩ := btw_of oa (by decide)
    have ck : (nI k).toNatClampNeg = k := clN (by omega)
    rw [ck] at ow ob
    have hpw := pow_self_le hk4
    have hkk := hpw k (Nat.le_refl _)
    have eq : q_rows T n (nI k) b = rowI b (rowsF T n k) := by unfold q_rows; rw [if_pos ok, ck]
    have fin : ∀ (x : Int32) (τ : AS) (x3 x4 : Option AV), mS [43, 47, 51, 57, 58] [228, 229, 231, 232, 233, 234, 236, 237, 238, 239] σ τ → x = rowI b (rowsF T n k) → P 97 [some tM, some (iv (nI k)), some (iv b), x3, x4] [iv x] τ := by
      intro x τ x3 x4 hS hx
      refine hP _ _ _ _ ⟨?_, hS⟩
      rw [eq, hx]
    have at51 : ∀ (m v : Nat) (bb : Best) (τ : AS), v + m = k ^ k → mS [43, 47, 51, 57, 58] [228, 229, 231, 232, 233, 234, 236, 237, 238, 239] σ τ → MBe k bb τ → (((List.range' v m).filter (isOrd k)).map (ordL k)).foldl (rowStep T n k) bb = rowsF T n k →
        P 51 [some tM, some (iv (nI k)), some (iv b), some (iv (nI (k ^ k))), some (iv (nI v))] [] τ := by
      intro m
      induction m with
      | zero =>
        intro v bb τ hv hS hB he
        refine hP _ _ _ _ (And.intro (fun _ => ?_) (fun q => absurd (nI_le (by omega) (by omega)) q))
        have S2 : mS [43, 47, 51, 57, 58] [228, 229, 231, 232, 233, 234, 236, 237, 238, 239] σ (sI τ 200 47 (nI 0)) := hS.f rfl
        have B2 : MBe k bb (sI τ 200 47 (nI 0)) := hB.keep (mS.rf.f (fs := [47]) (ids := []) rfl) rfl rfl
        have he : bb = rowsF T n k := he
        subst he
        generalize hrf : rowsF T n k = R at fin B2 eq
        cases R with
        | none =>
          refine And.intro (fun q => absurd B2.1 q) (fun _ => ⟨by rw [eq]; rfl, S2⟩)
        | some z =>
          obtain ⟨h57, h58, z1, z2, zz⟩ := B2
          refine And.intro (fun _ => ?_) (fun q => ?_)
          · refine And.intro (fun q => ?_) (fun q => ?_)
            · have hnb : ¬ b = - nI 1 := q
              rcases ob with ob | ob | ob
              · exact absurd ob hnb
              · obtain ⟨j, hj, rfl⟩ := inR_of ob (by omega)
                have cj : (nI j).toNatClampNeg = j := clN (by omega)
                refine And.intro (fun q2 => absurd q2 (nI_ge (by omega) (by omega))) (fun _ => And.intro (show vp_in (nI j) 4 from vinN (by omega) (by decide)) ?_)
                refine fin (gI (sI τ 200 47 (nI 0)) 237 (nI j).toNatClampNeg) _ _ _ S2 ?_
                rw [cj, (zz j hj).1]
                show _ = if _ then _ else _
                rw [if_neg hnb, cj, if_pos (by omega)]
              · obtain ⟨j, hj, hj2, rfl⟩ := btw_of ob (by omega)
                have cj : (nI j).toNatClampNeg = j := clN (by omega)
                have e10 : nI j - nI 10 = nI (j - 10) := nI_s1 j 10 hj
                refine And.intro (fun _ => And.intro (show vp_in (nI j - nI 10) 4 from by rw [e10]; exact vinN (by omega) (by decide)) ?_) (fun q2 => absurd (nI_le (by omega) (by omega)) q2)
                refine fin (gI (sI τ 200 47 (nI 0)) 239 (nI j - nI 10).toNatClampNeg) _ _ _ S2 ?_
                rw [e10, clN (show j - 10 < 2147483648 by omega), (zz (j-10) (by omega)).2]
                show _ = if _ then _ else _
                rw [if_neg hnb, cj, if_neg (by omega)]
            · have hb1 : b = - nI 1 := q
              refine fin (gI (sI τ 200 47 (nI 0)) 200 57) _ _ _ S2 ?_
              rw [h57]
              show _ = if _ then _ else _
              rw [if_pos hb1]
          · have q0 : gI (sI τ 200 47 (nI 0)) 200 57 = nI 1000000 := q
            rw [h57, nI_eq (by omega) (by omega)] at q0
            omega
      | succ m ih =>
        intro v bb τ hv hS hB he
        refine hP _ _ _ _ (And.intro (fun q => absurd q (nI_ge (by omega) (by omega))) (fun _ => ?_))
        rw [List.range'_succ] at he
        have next : ∀ (bb' : Best) (τ' : AS), mS [43, 47, 51, 57, 58] [228, 229, 231, 232, 233, 234, 236, 237, 238, 239] σ τ' → MBe k bb' τ' → (((List.range' (v+1) m).filter (isOrd k)).map (ordL k)).foldl (rowStep T n k) bb' = rowsF T n k → P 66 [some tM, some (iv (nI k)), some (iv b), some (iv (nI (k ^ k))), some (iv (nI v))] [] τ' := by
          intro bb' τ' a1 a2 a3
          refine hP _ _ _ _ ?_
          show P 51 [some tM, some (iv (nI k)), some (iv b), some (iv (nI (k ^ k))), some (iv (nI v + nI 1))] [] τ'
          rw [nI_add]
          exact ih (v+1) bb' τ' (by omega) a1 a2 a3
        refine mcall (c_isOrder G g l (d+13) τ _ _ v k rfl rfl hk hk4 (by omega)) (fun r s1 h9 => ?_)
        obtain ⟨rfl, S1, O1⟩ := h9
        have S1' := hS.tr (S1.mono (fs' := [43, 47, 51, 57, 58]) (ids' := [228, 229, 231, 232, 233, 234, 236, 237, 238, 239]) rfl rfl)
        have B1 := hB.keep S1 rfl rfl
        cases hio : isOrd k v with
        | false =>
          rw [List.filter_cons_of_neg (by rw [hio]; decide)] at he
          exact And.intro (fun _ => next bb s1 S1' B1 he) (fun q => absurd rfl q)
        | true =>
          rw [List.filter_cons_of_pos hio, List.map_cons, List.foldl_cons] at he
          refine And.intro (fun q => absurd q (by decide)) (fun _ => ?_)
          have hlen : (ordL k v).length = k := by simp [ordL]
          have hmem : ∀ w ∈ ordL k v, w < Tnw T ∧ w < 4 := by
            intro w hw
            simp only [ordL, List.mem_map] at hw
            obtain ⟨i, -, rfl⟩ := hw
            have := digD_lt (k := k) (v := v) (i := i) hk
            omega
          refine mcall (c_allGo G g l d s1 T n (h.keep S1' rfl rfl) _ (ordL k v) (by rw [hlen]) (by omega) hmem O1) (fun r s2 h9 => ?_)
          obtain ⟨rfl, S2, hC⟩ := h9
          have S2' := S1'.tr (S2.mono (fs' := [43, 47, 51, 57, 58]) (ids' := [228, 229, 231, 232, 233, 234, 236, 237, 238, 239]) rfl rfl)
          have B2 := B1.keep S2 rfl rfl
          have O2 := O1.keep S2 rfl
          cases hag : allGoF T n (ordL k v) [] (fun _ => 0) with
          | none =>
            have es : rowStep T n k bb (ordL k v) = bb := by unfold rowStep; rw [hag]
            rw [es] at he
            exact And.intro (fun _ => next bb s2 S2' B2 he) (fun q => absurd rfl q)
          | some c =>
            have es : rowStep T n k bb (ordL k v) = weigh1 k bb (ordL k v) c := by unfold rowStep; rw [hag]
            rw [es] at he
            refine And.intro (fun q => absurd (show bI true = nI 0 from q) (by decide)) (fun _ => ?_)
            refine mcall (c_weighs G g l (d+13) s2 _ k (ordL k v) c bb rfl hk4 hlen O2 (fun w hw => hC c hag w (ord_mem hk hk4 (by omega) hio w hw)) B2) (fun r s3 h9 => ?_)
            obtain ⟨rfl, S3, B3⟩ := h9
            exact next _ s3 (S2'.tr (S3.mono rfl rfl)) B3 he
    have at34 : ∀ (m i : Nat), i + m = k → P 34 [some tM, some (iv (nI k)), some (iv b), some (iv (nI (k ^ i))), some (iv (nI i))] [] σ := by
      intro m
      induction m with
      | zero =>
        intro i hi
        have ei : i = k := by omega
        subst ei
        refine hP _ _ _ _ (And.intro (fun _ => ?_) (fun q => absurd (nI_le (by omega) (by omega)) q))
        refine at51 (i ^ i) 0 none _ (by omega) ((mS.rf.f rfl).f rfl) ⟨by simp [gI_sI], by simp [gI_sI]⟩ ?_
        unfold rowsF permsF
        rw [List.range_eq_range']
      | succ m ih =>
        intro i hi
        have := hpw i (by omega)
        refine hP _ _ _ _ (And.intro (fun q => absurd q (nI_ge (by omega) (by omega))) (fun _ => ?_))
        show P 34 [some tM, some (iv (nI k)), some (iv b), some (iv (nI (k ^ i) * nI k)), some (iv (nI i + nI 1))] [] σ
        rw [nI_add, ix1, ← Nat.pow_succ]
        exact ih (i+1) (by omega)
    refine hP _ _ _ _ ?_
    have := at34 k 0 (by omega)
    rw [Nat.pow_zero] at this
    exact this
  refine hP _ _ _ _ ?_
  refine mcall (c_isIn G g l (d+13) _ _ _ _) (fun r s' h9 => ?_)
  obtain ⟨rfl, rfl⟩ := h9
  rw [btw_long (a := 1) (b := 4) (by decide) (by decide)]
  cases ha : btw a 1 4 with
  | false => exact And.intro (fun _ => no (by unfold okRows; rw [ha]; rfl)) (fun q => absurd rfl q)
  | true =>
    refine And.intro (fun q => absurd q (by decide)) (fun _ => ?_)
    obtain ⟨k, hk, hk4, rfl⟩ := btw_of ha (by decide)
    have ck : (nI k).toNatClampNeg = k := clN (by omega)
    refine mcall (c_walkerMany G g l (d+13) s') (fun r s' h9 => ?_)
    obtain ⟨rfl, rfl⟩ := h9
    rw [h.2.2.1.2.2.1]
    refine And.intro (fun q => ?_) (fun q => ?_)
    · have q0 := (nI_ltI (by omega) (by omega)).mp q
      exact no (by unfold okRows; rw [ha, ck, decide_eq_false (show ¬ k ≤ Tnw T by omega)]; rfl)
    · have q0 : ¬ Tnw T < k := fun e => q ((nI_ltI (by omega) (by omega)).mpr e)
      have eok : okRows T (nI k) b = (decide (b = - nI 1) || inR b k || btw b 10 (k + 9)) := by
        unfold okRows
        rw [ha, ck, decide_eq_true (show k ≤ Tnw T by omega), Bool.true_and, Bool.true_and, Bool.or_assoc]
      refine mcall (c_isIn G g l (d+13) _ _ _ _) (fun r s' h9 => ?_)
      obtain ⟨rfl, rfl⟩ := h9
      rw [in1_long (by omega)]
      cases h2 : (decide (b = - nI 1) || inR b k) with
      | true => exact And.intro (fun _ => yes (by rw [eok, h2]; rfl)) (fun q => absurd q (by decide))
      | false =>
        refine And.intro (fun q => absurd rfl q) (fun _ => ?_)
        refine mcall (c_isIn G g l (d+13) _ _ _ _) (fun r s' h9 => ?_)
        obtain ⟨rfl, rfl⟩ := h9
        rw [nI_add, nI_l (show k + 9 < 2147483648 by omega), btw_long (a := 10) (b := k + 9) (by decide) (by omega)]
        cases h3 : btw b 10 (k + 9) with
        | true => exact And.intro (fun _ => yes (by rw [eok, h2, h3]; rfl)) (fun q => absurd q (by decide))
        | false => exact And.intro (fun q => absurd rfl q) (fun _ => no (by rw [eok, h2, h3]; rfl))
end RX_
