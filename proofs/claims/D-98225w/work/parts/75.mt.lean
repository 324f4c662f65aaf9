section MT_
variable (G : CX) (g : GX) (l : Launch) (d : Nat) (σ : AS)
/-- a shift that all sights allow -/
def fit1 (T : Twn) (s sh : Nat) (x : Sig) : Bool := decide (x.1 = s → wid T s sh x.2.1 = x.2.2)
def fitF (T : Twn) (ss : List Sig) (s sh : Nat) : Bool := ss.all (fit1 T s sh)
set_option maxHeartbeats 1000000 in
theorem c_isShift (T : Twn) (h : MTn T σ) (hT : TOK T) (ss : List Sig) (hs : MSi ss σ) (x y : Int32) (s sh : Nat) (hx : x = nI s) (hy : y = nI sh) (hs1 : s < Tns T) (hsh : sh ≤ 1000) : MC G g l (d+5) mX6_isShift [tM, iv x, iv y] σ (fun r t => r = some (iv (bI (fitF T ss s sh))) ∧ mS [43] [228, 229] σ t) := by
  subst hx hy
  have h12 := hT.1
  have hl := hs.1
  refine MC1 tX6_isShift [2, 37] rfl okX6_isShift rfl rfl rfl rfl (fun P hP => hP _ _ _ _ ?_)
  have key : ∀ (m k : Nat) (τ : AS), k + m = ss.length → mS [43] [228, 229] σ τ → fitF T ss s sh = (ss.drop k).all (fit1 T s sh) → P 2 [some tM, some (iv (nI s)), some (iv (nI sh)), some (iv (nI k))] [] τ := by
    intro m
    induction m with
    | zero =>
      intro k τ hm hS he
      have hk : k = ss.length := by omega
      subst hk
      refine hP _ _ _ _ (And.intro (fun _ => ⟨nar1, ?_, hS⟩) (fun q => absurd ?_ q))
      · rw [he, List.drop_length]
        rfl
      · show gI τ 200 66 ≤ _
        rw [(hs.keep hS rfl rfl).2.1]
        exact Int32.le_refl _
    | succ m ih =>
      intro k τ hm hS he
      have hs' := hs.keep hS rfl rfl
      have hk : k < ss.length := by omega
      obtain ⟨a, b, c, a1, b1, c1⟩ := hs'.2.2 k ss[k] (List.getElem?_eq_getElem hk)
      rw [List.drop_eq_getElem_cons hk, List.all_cons] at he
      have u0 : nI 3 * nI k = nI (3 * k) := pk_mul _ _
      have u1 : nI 3 * nI k + nI 1 = nI (3 * k + 1) := by rw [u0, nI_add]
      have u2 : nI 3 * nI k + nI 2 = nI (3 * k + 2) := by rw [u0, nI_add]
      have k3 : 3 * k + 2 < 60 := by omega
      have go : ∀ τ', mS [43] [228, 229] σ τ' → fit1 T s sh ss[k] = true → P 37 [some tM, some (iv (nI s)), some (iv (nI sh)), some (iv (nI k))] [] τ' := by
        intro τ' hS' e1
        refine hP _ _ _ _ ?_
        show P 2 [some tM, some (iv (nI s)), some (iv (nI sh)), some (iv (nI k + nI 1))] [] τ'
        rw [nI_add]
        exact ih (k+1) τ' (by omega) hS' (by rw [he, e1]; rfl)
      refine hP _ _ _ _ (And.intro (fun q => ?_) (fun _ => And.intro (show vp_in (nI 3 * nI k) 60 from by rw [u0]; exact vinN (by omega) (by decide)) (And.intro (fun q => go _ hS ?_) (fun q => And.intro (show vp_in (nI 3 * nI k + nI 1) 60 from by rw [u1]; exact vinN (by omega) (by decide)) ?_))))
      · have q : gI τ 200 66 ≤ nI k := q
        rw [hs'.2.1, nI_leI (by omega) (by omega)] at q
        omega
      · have q : ¬ gI τ 243 (nI 3 * nI k).toNatClampNeg = nI s := q
        rw [u0, clN (by omega), a, nI_eq (by omega) (by omega)] at q
        exact decide_eq_true (fun e => absurd e q)
      · have q : gI τ 243 (nI 3 * nI k).toNatClampNeg = nI s := q
        rw [u0, clN (by omega), a, nI_eq (by omega) (by omega)] at q
        refine mcall (c_widthBy G g l d τ T (h.keep hS rfl) hT _ (gI τ 243 (nI 3 * nI k + nI 1).toNatClampNeg) _ s (ss[k]).2.1 sh rfl (by rw [u1, clN (by omega), b]) rfl hs1 (by omega) hsh) (fun r s2 h9 => ?_)
        obtain ⟨rfl, hS2⟩ := h9
        have hS3 := hS.tr hS2
        have c9 : gI s2 243 (nI 3 * nI k + nI 2).toNatClampNeg = nI (ss[k]).2.2 := by rw [u2, clN (by omega)]; exact ((hs.keep hS3 rfl rfl).2.2 k ss[k] (List.getElem?_eq_getElem hk)).2.2.1
        have hw := wid_le T s sh (ss[k]).2.1
        refine And.intro (show vp_in (nI 3 * nI k + nI 2) 60 from by rw [u2]; exact vinN (by omega) (by decide)) (And.intro (fun q1 => go _ hS3 ?_) (fun q1 => ⟨nar0, ?_, hS3⟩))
        · have q1 : nI (wid T s sh (ss[k]).2.1) = gI s2 243 (nI 3 * nI k + nI 2).toNatClampNeg := q1
          rw [c9, nI_eq (by omega) (by omega)] at q1
          exact decide_eq_true (fun _ => q1)
        · have q1 : ¬ nI (wid T s sh (ss[k]).2.1) = gI s2 243 (nI 3 * nI k + nI 2).toNatClampNeg := q1
          rw [c9, nI_eq (by omega) (by omega)] at q1
          rw [he]
          unfold fit1
          rw [decide_eq_false (fun e => q1 (e q))]
          rfl
  exact key ss.length 0 σ (by omega) mS.rf rfl
/-- the k-th of those that fit, or how many -/
def selF (p : Nat → Bool) (k : Int32) : Nat → Nat → Nat → Int32
  | 0, _, n => if k = - nI 1 then nI n else - nI 1
  | m+1, j, n => if p j = true then (if nI n = k then nI j else selF p k m (j+1) (n+1)) else selF p k m (j+1) n
def q_shifts (T : Twn) (ss : List Sig) (a k : Int32) : Int32 := if inR a (Tns T) = true then selF (fitF T ss a.toNatClampNeg) k (Trd T a.toNatClampNeg) 0 0 else - nI 1
set_option maxHeartbeats 1000000 in
theorem c_shifts (T : Twn) (h : MTn T σ) (hT : TOK T) (ss : List Sig) (hs : MSi ss σ) (a k : Int32) : MC G g l (d+6) mX6_shifts [tM, iv a, iv k] σ (fun r t => r = some (iv (q_shifts T ss a k)) ∧ mS [43] [228, 229] σ t) := by
  have h12 := hT.1
  refine MC1 tX6_shifts [10, 27] rfl okX6_shifts rfl rfl rfl rfl (fun P hP => hP _ _ _ _ ?_)
  refine mcall (c_isStreet G g l (d+3) σ T a h hT) (fun r s' h9 => ?_)
  obtain ⟨rfl, rfl⟩ := h9
  cases ha : inR a (Tns T) with
  | false =>
    refine And.intro (fun q => absurd rfl q) (fun _ => ⟨?_, mS.rf⟩)
    unfold q_shifts
    rw [if_neg (by rw [ha]; decide)]
  | true =>
    refine And.intro (fun _ => ?_) (fun q => absurd q (by decide))
    obtain ⟨s, hs1, rfl⟩ := inR_of ha (by omega)
    have cs : (nI s).toNatClampNeg = s := clN (by omega)
    have hr := (hT.2.1 s hs1).2.2.2.2.1
    have e : q_shifts T ss (nI s) k = selF (fitF T ss s) k (Trd T s) 0 0 := by unfold q_shifts; rw [if_pos ha, cs]
    have key : ∀ (m j n : Nat) (τ : AS), j + m = Trd T s → n ≤ j → mS [43] [228, 229] s' τ → q_shifts T ss (nI s) k = selF (fitF T ss s) k m j n → P 10 [some tM, some (iv (nI s)), some (iv k), some (iv (nI n)), some (iv (nI j))] [] τ := by
      intro m
      induction m with
      | zero =>
        intro j n τ hm hn hS he
        refine hP _ _ _ _ ?_
        refine mcall (c_roundOf G g l (d+4) τ T (h.keep hS rfl) _ s rfl hs1 hT) (fun r s2 h9 => ?_)
        obtain ⟨rfl, rfl⟩ := h9
        have hj : j = Trd T s := by omega
        subst hj
        refine And.intro (fun _ => And.intro (fun q => ⟨?_, hS⟩) (fun q => ⟨?_, hS⟩)) (fun q => absurd (Int32.le_refl _) q)
        · have q : ¬ k = - nI 1 := q
          rw [he]
          unfold selF
          rw [if_neg q]
        · have q : k = - nI 1 := q
          rw [he]
          unfold selF
          rw [if_pos q]
      | succ m ih =>
        intro j n τ hm hn hS he
        have go : ∀ (n' : Nat) (τ' : AS), n' ≤ j + 1 → mS [43] [228, 229] s' τ' → q_shifts T ss (nI s) k = selF (fitF T ss s) k m (j+1) n' → P 27 [some tM, some (iv (nI s)), some (iv k), some (iv (nI n')), some (iv (nI j))] [] τ' := by
          intro n' τ' h1 h2 h3
          refine hP _ _ _ _ ?_
          show P 10 [some tM, some (iv (nI s)), some (iv k), some (iv (nI n')), some (iv (nI j + nI 1))] [] τ'
          rw [nI_add]
          exact ih (j+1) n' τ' (by omega) h1 h2 h3
        refine hP _ _ _ _ ?_
        refine mcall (c_roundOf G g l (d+4) τ T (h.keep hS rfl) _ s rfl hs1 hT) (fun r s2 h9 => ?_)
        obtain ⟨rfl, rfl⟩ := h9
        refine And.intro (fun q => absurd q (nI_ge (by omega) (by omega))) (fun _ => ?_)
        refine mcall (c_isShift G g l d s2 T (h.keep hS rfl) hT ss (hs.keep hS rfl rfl) _ _ s j rfl rfl hs1 (by omega)) (fun r s3 h9 => ?_)
        obtain ⟨rfl, hS2⟩ := h9
        have hS3 := hS.tr hS2
        cases hf : fitF T ss s j with
        | false =>
          refine And.intro (fun q => absurd rfl q) (fun _ => go n _ (by omega) hS3 ?_)
          rw [he]
          conv => lhs; unfold selF
          rw [if_neg (by rw [hf]; decide)]
        | true =>
          refine And.intro (fun _ => And.intro (fun q => ?_) (fun q => ⟨?_, hS3⟩)) (fun q => absurd q (by decide))
          · have q : ¬ nI n = k := q
            show P 27 [some tM, some (iv (nI s)), some (iv k), some (iv (nI n + nI 1)), some (iv (nI j))] [] s3
            rw [nI_add]
            refine go (n+1) _ (by omega) hS3 ?_
            rw [he]
            conv => lhs; unfold selF
            rw [if_pos hf, if_neg q]
          · have q : nI n = k := q
            rw [he]
            unfold selF
            rw [if_pos hf, if_pos q]
    exact key (Trd T s) 0 0 s' (by omega) (by omega) mS.rf e
/-- how many shifts look alike, at the most -/
def alikeF (p : Nat → Bool) (wd : Nat → Nat) : Nat → Nat → (Nat → Nat) → Nat → Nat
  | 0, _, _, mo => mo
  | m+1, j, f, mo => if p j = true then alikeF p wd m (j+1) (fun v => if v = wd j then f v + 1 else f v) (if mo < f (wd j) + 1 then f (wd j) + 1 else mo) else alikeF p wd m (j+1) f mo
def alike0 (T : Twn) (ss : List Sig) (s h : Nat) : Nat := alikeF (fitF T ss s) (fun sh => wid T s sh h) (Trd T s) 0 (fun _ => 0) 0
set_option maxHeartbeats 1000000 in
theorem c_alikeIn (T : Twn) (h : MTn T σ) (hT : TOK T) (ss : List Sig) (x y : Int32) (s hr : Nat) (hx : x = nI s) (hy : y = nI hr) (hs1 : s < Tns T) (hhr : hr ≤ 100000) (hC : ∀ j, j < Trd T s → gI σ 244 j = bI (fitF T ss s j)) : MC G g l (d+5) mX6_alikeIn [tM, iv x, iv y] σ (fun r t => r = some (iv (nI (alike0 T ss s hr))) ∧ mS [43] [228, 229, 245] σ t) := by
  subst hx hy
  have h12 := hT.1
  have hrd := (hT.2.1 s hs1).2.2.2.2.1
  refine MC1 tX6_alikeIn [4, 16, 52] rfl okX6_alikeIn rfl rfl rfl rfl (fun P hP => hP _ _ _ _ ?_)
  have key2 : ∀ (m j mo : Nat) (f : Nat → Nat) (x5 : Option AV) (τ : AS), j + m = Trd T s → mo ≤ j → (∀ v, v < 100 → gI τ 245 v = nI (f v) ∧ f v ≤ j) → mS [43] [228, 229, 245] σ τ → alike0 T ss s hr = alikeF (fitF T ss s) (fun sh => wid T s sh hr) m j f mo → P 16 [some tM, some (iv (nI s)), some (iv (nI hr)), some (iv (nI mo)), some (iv (nI j)), x5] [] τ := by
    intro m
    induction m with
    | zero =>
      intro j mo f x5 τ hm hmo hf hS he
      refine hP _ _ _ _ ?_
      refine mcall (c_roundOf G g l (d+3) τ T (h.keep hS rfl) _ s rfl hs1 hT) (fun r s2 h9 => ?_)
      obtain ⟨rfl, rfl⟩ := h9
      have hj : j = Trd T s := by omega
      subst hj
      exact And.intro (fun _ => ⟨by rw [he]; rfl, hS⟩) (fun q => absurd (Int32.le_refl _) q)
    | succ m ih =>
      intro j mo f x5 τ hm hmo hf hS he
      have go : ∀ (mo' : Nat) (f' : Nat → Nat) (x5' : Option AV) (τ' : AS), mo' ≤ j + 1 → (∀ v, v < 100 → gI τ' 245 v = nI (f' v) ∧ f' v ≤ j + 1) → mS [43] [228, 229, 245] σ τ' → alike0 T ss s hr = alikeF (fitF T ss s) (fun sh => wid T s sh hr) m (j+1) f' mo' → P 52 [some tM, some (iv (nI s)), some (iv (nI hr)), some (iv (nI mo')), some (iv (nI j)), x5'] [] τ' := by
        intro mo' f' x5' τ' a1 a2 a3 a4
        refine hP _ _ _ _ ?_
        show P 16 [some tM, some (iv (nI s)), some (iv (nI hr)), some (iv (nI mo')), some (iv (nI j + nI 1)), x5'] [] τ'
        rw [nI_add]
        exact ih (j+1) mo' f' x5' τ' (by omega) a1 a2 a3 a4
      refine hP _ _ _ _ ?_
      refine mcall (c_roundOf G g l (d+3) τ T (h.keep hS rfl) _ s rfl hs1 hT) (fun r s2 h9 => ?_)
      obtain ⟨rfl, rfl⟩ := h9
      have cC : gI s2 244 (nI j).toNatClampNeg = bI (fitF T ss s j) := by rw [clN (by omega), hS.ia 244 rfl rfl]; exact hC j (by omega)
      refine And.intro (fun q => absurd q (nI_ge (by omega) (by omega))) (fun _ => And.intro (show vp_in (nI j) 48 from vinN (by omega) (by decide)) (And.intro (fun q => ?_) (fun q => ?_)))
      · have q : ¬ gI s2 244 (nI j).toNatClampNeg = nI 0 := q
        rw [cC] at q
        have hf1 : fitF T ss s j = true := by
          cases hf1 : fitF T ss s j with
          | true => rfl
          | false => rw [hf1] at q; exact absurd rfl q
        refine mcall (c_widthBy G g l d s2 T (h.keep hS rfl) hT _ _ _ s hr j rfl rfl rfl hs1 (by omega) (by omega)) (fun r s3 h9 => ?_)
        obtain ⟨rfl, hS2⟩ := h9
        have hS3 := hS.tr (hS2.mono rfl rfl)
        have hw := wid_le T s j hr
        have cw : (nI (wid T s j hr)).toNatClampNeg = wid T s j hr := clN (by omega)
        obtain ⟨f1, f2⟩ := hf (wid T s j hr) (by omega)
        have f3 : gI s3 245 (wid T s j hr) = nI (f (wid T s j hr)) := by rw [hS2.ia 245 rfl rfl]; exact f1
        have vw : vp_in (nI (wid T s j hr)) 100 := vinN (by omega) (by decide)
        have e9 : gI s3 245 (nI (wid T s j hr)).toNatClampNeg + nI 1 = nI (f (wid T s j hr) + 1) := by rw [cw, f3, nI_add]
        have n9 : ∀ v, v < 100 → gI (sI s3 245 (nI (wid T s j hr)).toNatClampNeg (gI s3 245 (nI (wid T s j hr)).toNatClampNeg + nI 1)) 245 v = nI ((fun v => if v = wid T s j hr then f v + 1 else f v) v) ∧ (fun v => if v = wid T s j hr then f v + 1 else f v) v ≤ j + 1 := by
          intro v hv
          rw [e9, cw, gI_sI]
          show _ = nI (if v = wid T s j hr then f v + 1 else f v) ∧ (if v = wid T s j hr then f v + 1 else f v) ≤ j + 1
          by_cases e : v = wid T s j hr
          · rw [if_pos ⟨rfl, e⟩, if_pos e, e]
            exact ⟨rfl, by omega⟩
          · rw [if_neg (fun q => e q.2), if_neg e, hS2.ia 245 rfl rfl]
            exact ⟨(hf v hv).1, by have := (hf v hv).2; omega⟩
        have he2 : alike0 T ss s hr = alikeF (fitF T ss s) (fun sh => wid T s sh hr) m (j+1) (fun v => if v = wid T s j hr then f v + 1 else f v) (if mo < f (wid T s j hr) + 1 then f (wid T s j hr) + 1 else mo) := by
          rw [he]
          conv => lhs; unfold alikeF
          rw [if_pos hf1]
        have l9 : gI (sI s3 245 (nI (wid T s j hr)).toNatClampNeg (gI s3 245 (nI (wid T s j hr)).toNatClampNeg + nI 1)) 245 (nI (wid T s j hr)).toNatClampNeg = nI (f (wid T s j hr) + 1) := by
          rw [gI_sI, if_pos ⟨rfl, rfl⟩, e9]
        refine And.intro vw (And.intro vw (And.intro vw (And.intro (fun q1 => ?_) (fun q1 => And.intro vw ?_))))
        · have q1 : gI (sI s3 245 (nI (wid T s j hr)).toNatClampNeg (gI s3 245 (nI (wid T s j hr)).toNatClampNeg + nI 1)) 245 (nI (wid T s j hr)).toNatClampNeg ≤ nI mo := q1
          rw [l9, nI_leI (by omega) (by omega)] at q1
          rw [if_neg (by omega)] at he2
          exact go mo _ _ _ (by omega) n9 (hS3.a rfl) he2
        · have q1 : ¬ gI (sI s3 245 (nI (wid T s j hr)).toNatClampNeg (gI s3 245 (nI (wid T s j hr)).toNatClampNeg + nI 1)) 245 (nI (wid T s j hr)).toNatClampNeg ≤ nI mo := q1
          rw [l9, nI_leI (by omega) (by omega)] at q1
          rw [if_pos (by omega)] at he2
          show P 52 [some tM, some (iv (nI s)), some (iv (nI hr)), some (iv (gI (sI s3 245 (nI (wid T s j hr)).toNatClampNeg (gI s3 245 (nI (wid T s j hr)).toNatClampNeg + nI 1)) 245 (nI (wid T s j hr)).toNatClampNeg)), some (iv (nI j)), _] [] _
          rw [l9]
          exact go _ _ _ _ (by omega) n9 (hS3.a rfl) he2
      · have q : gI s2 244 (nI j).toNatClampNeg = nI 0 := q
        rw [cC] at q
        have hf1 : fitF T ss s j = false := by
          cases hf1 : fitF T ss s j with
          | false => rfl
          | true => rw [hf1] at q; exact absurd q (by decide)
        refine go mo f _ _ (by omega) (fun v hv => ⟨(hf v hv).1, by have := (hf v hv).2; omega⟩) hS ?_
        rw [he]
        conv => lhs; unfold alikeF
        rw [if_neg (by rw [hf1]; decide)]
  have key1 : ∀ (m k : Nat) (τ : AS), k + m = 100 → mS [43] [228, 229, 245] σ τ → (∀ v, v < k → gI τ 245 v = nI 0) → P 4 [some tM, some (iv (nI s)), some (iv (nI hr)), some (iv (nI 0)), some (iv (nI k)), none] [] τ := by
    intro m
    induction m with
    | zero =>
      intro k τ hm hS hz
      have hk : k = 100 := by omega
      subst hk
      refine hP _ _ _ _ (And.intro (fun _ => ?_) (fun q => absurd (Int32.le_refl _) q))
      exact key2 (Trd T s) 0 0 (fun _ => 0) none τ (by omega) (by omega) (fun v hv => ⟨hz v hv, by omega⟩) hS rfl
    | succ m ih =>
      intro k τ hm hS hz
      have ck : (nI k).toNatClampNeg = k := clN (by omega)
      refine hP _ _ _ _ (And.intro (fun q => absurd q (nI_ge (by omega) (by omega))) (fun _ => And.intro (show vp_in (nI k) 100 from vinN (by omega) (by decide)) ?_))
      show P 4 [some tM, some (iv (nI s)), some (iv (nI hr)), some (iv (nI 0)), some (iv (nI k + nI 1)), none] [] (sI τ 245 (nI k).toNatClampNeg (nI 0))
      rw [nI_add, ck]
      refine ih (k+1) _ (by omega) (hS.a rfl) (fun v hv => ?_)
      rw [gI_sI]
      by_cases e : v = k
      · rw [if_pos ⟨rfl, e⟩]
      · rw [if_neg (fun q => e q.2)]
        exact hz v (by omega)
  exact key1 100 0 σ (by omega) mS.rf (fun v hv => by omega)
end MT_
