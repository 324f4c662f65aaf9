/-! DOCTORS: which places are reached in time, as bits; the first few that serve all -/
def bitsF (f : Nat → Bool) : Nat → Int32
  | 0 => nI 0
  | m+1 => if f m = true then bitsF f m ||| (nI 1 <<< (nI m &&& 31)) else bitsF f m
noncomputable def rchB (T : Twn) (n : Nws) (b wi p h : Nat) (q : Nat) : Bool := decide (EAf T n [] 99 b (h + wi + 1) p h q ≤ h + wi)
noncomputable def rchS (T : Twn) (n : Nws) (b wi p k : Nat) : Int32 := bitsF (rchB T n b wi p (Nhr n + k)) (Tnp T)
def enough (T : Twn) (R : Nat → Nat → Int32) (a b c : Nat) : Bool := allR (fun k => decide (R a k ||| R b k ||| R c k = (nI 1 <<< (nI (Tnp T) &&& 31)) - nI 1)) 24 0
abbrev Dct : Type := Nat × Nat × Nat × Nat
def findF {X : Type} (f : Nat → Option X) : Nat → Nat → Option X
  | 0, _ => none
  | m+1, a => match f a with
    | some x => some x
    | none => findF f m (a+1)
def orO {X : Type} (o r : Option X) : Option X := match o with
  | some x => some x
  | none => r
def ifO (b : Bool) (x : Dct) : Option Dct := if b = true then some x else none
def doc1 (E : Nat → Nat → Nat → Bool) (a : Nat) : Option Dct := ifO (E a a a) (1, a, a, a)
def doc2b (E : Nat → Nat → Nat → Bool) (a b : Nat) : Option Dct := ifO (E a b b) (2, a, b, b)
def doc2 (E : Nat → Nat → Nat → Bool) (np a : Nat) : Option Dct := findF (doc2b E a) (np - (a+1)) (a+1)
def doc3c (E : Nat → Nat → Nat → Bool) (a b c : Nat) : Option Dct := ifO (E a b c) (3, a, b, c)
def doc3b (E : Nat → Nat → Nat → Bool) (np a b : Nat) : Option Dct := findF (doc3c E a b) (np - (b+1)) (b+1)
def doc3 (E : Nat → Nat → Nat → Bool) (np a : Nat) : Option Dct := findF (doc3b E np a) (np - (a+1)) (a+1)
def docF (E : Nat → Nat → Nat → Bool) (np : Nat) : Option Dct := orO (orO (findF (doc1 E) np 0) (findF (doc2 E np) np 0)) (findF (doc3 E np) np 0)
def okDoc (T : Twn) (a b c : Int32) : Bool := btw a 1 99 && (btw b 0 400 && (decide (Tnp T ≠ 0) && (decide (c = - nI 1) || inR c 3)))
def docI (c : Int32) (o : Option Dct) : Int32 := match o with
  | none => - nI 1
  | some x => if c = - nI 1 then nI x.1 else if c.toNatClampNeg < x.1 then nI (if c.toNatClampNeg = 0 then x.2.1 else if c.toNatClampNeg = 1 then x.2.2.1 else x.2.2.2) else - nI 1
noncomputable def q_doctors (T : Twn) (n : Nws) (a b c : Int32) : Int32 := if okDoc T a b c = true then docI c (docF (enough T (rchS T n a.toNatClampNeg b.toNatClampNeg)) (Tnp T)) else - nI 1
theorem findF_step {X : Type} (f : Nat → Option X) (m a : Nat) : findF f (m+1) a = orO (f a) (findF f m (a+1)) := by
  show (match f a with
    | some x => some x
    | none => findF f m (a+1)) = orO (f a) (findF f m (a+1))
  cases f a <;> rfl
theorem orO_assoc {X : Type} (a b c : Option X) : orO (orO a b) c = orO a (orO b c) := by cases a <;> rfl
theorem orO_none {X : Type} (a : Option X) : orO a none = a := by cases a <;> rfl
section DO_
variable (G : CX) (g : GX) (l : Launch) (d : Nat) (σ : AS)
def MRe (T : Twn) (R : Nat → Nat → Int32) (σ : AS) : Prop := ∀ p, p < Tnp T → ∀ k, k < 24 → gI σ 240 (24 * p + k) = R p k
theorem MRe.keep {fs ids : List Nat} {T : Twn} {R : Nat → Nat → Int32} {σ s : AS} (h : MRe T R σ) (hS : mS fs ids σ s) (h1 : ids.contains 240 = false) : MRe T R s := fun p hp k hk => by
  rw [hS.ia 240 h1 rfl]
  exact h p hp k hk
set_option maxHeartbeats 2000000 in
theorem c_reaches (T : Twn) (n : Nws) (h : TN T n σ) (x y : Int32) (b wi : Nat) (hx : x = nI b) (hy : y = nI wi) (hb : b ≤ 1000) (hwi : wi ≤ 400) :
    MC G g l (d+12) mX6_reaches [tM, iv x, iv y] σ (fun r t => r = none ∧ mS [43, 47] [228, 229, 232, 240] σ t ∧ MRe T (rchS T n b wi) t) := by
  subst hx; subst hy
  have h12 := h.1.1
  have hh := h.2.1.1
  refine MC1 tX6_reaches [5, 11, 34, 52] rfl okX6_reaches rfl rfl rfl rfl (fun P hP => ?_)
  have k5 : ∀ (m p : Nat) (τ : AS) (x4 x5 x6 x7 : Option AV), p + m = Tnp T → mS [43, 47] [228, 229, 232, 240] σ τ → gI τ 200 47 = nI 0 → (∀ p', p' < p → ∀ k, k < 24 → gI τ 240 (24 * p' + k) = rchS T n b wi p' k) →
      P 5 [some tM, some (iv (nI b)), some (iv (nI wi)), some (iv (nI p)), x4, x5, x6, x7] [] τ := by
    intro m
    induction m with
    | zero =>
      intro p τ x4 x5 x6 x7 hp hS h47 hall
      refine hP _ _ _ _ ?_
      refine mcall (c_placeMany G g l (d+10) τ) (fun r τ h9 => ?_)
      obtain ⟨rfl, rfl⟩ := h9
      rw [(h.2.2.1.keep hS rfl).1]
      refine And.intro (fun _ => ⟨rfl, hS, fun p' hp' => hall p' (by omega)⟩) (fun q => absurd (nI_le (by omega) (by omega)) q)
    | succ m ih =>
      intro p τ x4 x5 x6 x7 hp hS h47 hall
      refine hP _ _ _ _ ?_
      refine mcall (c_placeMany G g l (d+10) τ) (fun r τ h9 => ?_)
      obtain ⟨rfl, rfl⟩ := h9
      rw [(h.2.2.1.keep hS rfl).1]
      refine And.intro (fun q => absurd q (nI_ge (by omega) (by omega))) (fun _ => ?_)
      have k11 : ∀ (m' k : Nat) (τ : AS) (x5 x6 x7 : Option AV), k + m' = 24 → mS [43, 47] [228, 229, 232, 240] σ τ → gI τ 200 47 = nI 0 → (∀ p', p' < p → ∀ k, k < 24 → gI τ 240 (24 * p' + k) = rchS T n b wi p' k) → (∀ k', k' < k → gI τ 240 (24 * p + k') = rchS T n b wi p k') →
          P 11 [some tM, some (iv (nI b)), some (iv (nI wi)), some (iv (nI p)), some (iv (nI k)), x5, x6, x7] [] τ := by
        intro m'
        induction m' with
        | zero =>
          intro k τ x5 x6 x7 hk hS h47 hall hrow
          have ek : k = 24 := by omega
          refine hP _ _ _ _ (And.intro (fun _ => ?_) (fun q => absurd (nI_le (by omega) (by omega)) q))
          show P 5 [some tM, some (iv (nI b)), some (iv (nI wi)), some (iv (nI p + nI 1)), some (iv (nI k)), x5, x6, x7] [] τ
          rw [nI_add]
          refine ih (p+1) τ _ _ _ _ (by omega) hS h47 (fun p' hp' k' hk' => ?_)
          by_cases e : p' = p
          · rw [e]; exact hrow k' (by omega)
          · exact hall p' (by omega) k' hk'
        | succ m' ih' =>
          intro k τ x5 x6 x7 hk hS h47 hall hrow
          have hTN := h.keep hS rfl rfl
          have e5 : gI τ 230 (nI 0).toNatClampNeg + nI k = nI (Nhr n + k) := by
            show gI τ 230 0 + nI k = _
            rw [hTN.2.2.2.1, nI_add]
          refine hP _ _ _ _ (And.intro (fun q => absurd q (nI_ge (by omega) (by omega))) (fun _ => And.intro (vin 0 31 rfl rfl) ?_))
          refine mcall (c_spreads G g l d τ T n hTN [] ⟨h47, by simp, fun k r hr => by simp at hr⟩ _ _ _ _ _ p (Nhr n + k) b (Nhr n + k + wi + 1) 99 rfl e5 rfl (by rw [e5, nI_add]; exact (nI_pred (Nhr n + k + wi)).symm) (fun s hs => ⟨fun e => absurd e (nI_ne_m1 (by omega)), fun e => by omega⟩) (by omega) (by omega) hb (by omega)) (fun r s1 h9 => ?_)
          obtain ⟨rfl, S1, A, hA, hE⟩ := h9
          have S1' := hS.tr (S1.mono (fs' := [43, 47]) (ids' := [228, 229, 232, 240]) rfl rfl)
          have eA := (EAf_eq hE (fun q hq => hA.le (by omega))).1
          have k34 : ∀ (m2 q : Nat) (x5 : Int32), x5 = nI (Nhr n + k) → q + m2 = Tnp T → P 34 [some tM, some (iv (nI b)), some (iv (nI wi)), some (iv (nI p)), some (iv (nI k)), some (iv x5), some (iv (bitsF (rchB T n b wi p (Nhr n + k)) q)), some (iv (nI q))] [] s1 := by
            intro m2
            induction m2 with
            | zero =>
              intro q x5 hx5 hq
              subst hx5
              have eq : q = Tnp T := by omega
              subst eq
              refine hP _ _ _ _ ?_
              refine mcall (c_placeMany G g l (d+10) s1) (fun r s1 h9 => ?_)
              obtain ⟨rfl, rfl⟩ := h9
              rw [(h.2.2.1.keep S1' rfl).1]
              have ei : nI 24 * nI p + nI k = nI (24 * p + k) := by rw [ix1, nI_add]
              refine And.intro (fun _ => And.intro (show vp_in (nI 24 * nI p + nI k) 216 from by rw [ei]; exact vinN (by omega) (by decide)) ?_) (fun q => absurd (nI_le (by omega) (by omega)) q)
              show P 11 [some tM, some (iv (nI b)), some (iv (nI wi)), some (iv (nI p)), some (iv (nI k + nI 1)), some (iv (nI (Nhr n + k))), some (iv (bitsF (rchB T n b wi p (Nhr n + k)) (Tnp T))), some (iv (nI (Tnp T)))] [] (sI s1 240 (nI 24 * nI p + nI k).toNatClampNeg (bitsF (rchB T n b wi p (Nhr n + k)) (Tnp T)))
              rw [ei, clN (by omega), nI_add]
              refine ih' (k+1) _ _ _ _ (by omega) (S1'.a rfl) ?_ (fun p' hp' k' hk' => ?_) (fun k' hk' => ?_)
              · rw [gI_sI, if_neg (by omega), S1.i 200 47 rfl rfl]; exact h47
              · rw [gI_sI, if_neg (by omega), S1.ia 240 rfl rfl]; exact hall p' hp' k' hk'
              · rw [gI_sI]
                by_cases e : k' = k
                · rw [if_pos ⟨rfl, by omega⟩, e]; rfl
                · rw [if_neg (by omega), S1.ia 240 rfl rfl]; exact hrow k' (by omega)
            | succ m2 ih2 =>
              intro q x5 hx5 hq
              subst hx5
              have hqn : q < Tnp T := by omega
              refine hP _ _ _ _ ?_
              refine mcall (c_placeMany G g l (d+10) s1) (fun r s1 h9 => ?_)
              obtain ⟨rfl, rfl⟩ := h9
              rw [(h.2.2.1.keep S1' rfl).1]
              refine And.intro (fun q => absurd q (nI_ge (by omega) (by omega))) (fun _ => ?_)
              have gq : gI s1 232 (nI q).toNatClampNeg = nI (EAf T n [] 99 b (Nhr n + k + wi + 1) p (Nhr n + k) q) := by rw [clN (by omega), (hA q (by omega)).1, eA q hqn]
              have hle : EAf T n [] 99 b (Nhr n + k + wi + 1) p (Nhr n + k) q ≤ 1000000 := by rw [← eA q hqn]; exact hA.le (by omega)
              have next : ∀ v : Int32, v = bitsF (rchB T n b wi p (Nhr n + k)) (q+1) → P 52 [some tM, some (iv (nI b)), some (iv (nI wi)), some (iv (nI p)), some (iv (nI k)), some (iv (nI (Nhr n + k))), some (iv v), some (iv (nI q))] [] s1 := by
                intro v hv
                subst hv
                refine hP _ _ _ _ ?_
                show P 34 [some tM, some (iv (nI b)), some (iv (nI wi)), some (iv (nI p)), some (iv (nI k)), some (iv (nI (Nhr n + k))), some (iv (bitsF (rchB T n b wi p (Nhr n + k)) (q+1))), some (iv (nI q + nI 1))] [] s1
                rw [nI_add]
                exact ih2 (q+1) _ rfl (by omega)
              refine And.intro (show vp_in (nI q) 9 from vinN (by omega) (by decide)) (And.intro (fun e => ?_) (fun e => ?_))
              · have e0 : nI (Nhr n + k) + nI wi < gI s1 232 (nI q).toNatClampNeg := e
                rw [gq, nI_add, nI_ltI (by omega) (by omega)] at e0
                refine next _ ?_
                conv => rhs; unfold bitsF
                rw [if_neg (by unfold rchB; rw [decide_eq_false (by omega)]; decide)]
              · have e0 : ¬ nI (Nhr n + k) + nI wi < gI s1 232 (nI q).toNatClampNeg := e
                rw [gq, nI_add, nI_ltI (by omega) (by omega)] at e0
                refine next _ ?_
                conv => rhs; unfold bitsF
                rw [if_pos (by unfold rchB; exact decide_eq_true (by omega))]
          exact k34 (Tnp T) 0 _ e5 (by omega)
      exact k11 24 0 τ x5 x6 x7 rfl hS h47 hall (fun k' hk' => absurd hk' (Nat.not_lt_zero _))
  refine hP _ _ _ _ ?_
  exact k5 (Tnp T) 0 _ none none none none (by omega) (mS.rf.f rfl) rfl (fun p' hp' => absurd hp' (Nat.not_lt_zero _))
theorem c_areEnough (T : Twn) (h : MTn T σ) (hT : TOK T) (R : Nat → Nat → Int32) (hR : MRe T R σ) (x y z : Int32) (a b c : Nat) (hx : x = nI a) (hy : y = nI b) (hz : z = nI c) (ha : a < Tnp T) (hb : b < Tnp T) (hc : c < Tnp T) :
    MC G g l (d+2) mX6_areEnough [tM, iv x, iv y, iv z] σ (fun r t => r = some (iv (bI (enough T R a b c))) ∧ t = σ) := by
  subst hx; subst hy; subst hz
  have h12 := hT.1
  refine MC1 tX6_areEnough [9] rfl okX6_areEnough rfl rfl rfl rfl (fun P hP => ?_)
  refine hP _ _ _ _ ?_
  refine mcall (c_placeMany G g l d σ) (fun r τ h9 => ?_)
  obtain ⟨rfl, rfl⟩ := h9
  rw [h.1]
  have key : ∀ (m k : Nat), k + m = 24 → enough T R a b c = allR (fun k => decide (R a k ||| R b k ||| R c k = (nI 1 <<< (nI (Tnp T) &&& 31)) - nI 1)) m k → P 9 [some tM, some (iv (nI a)), some (iv (nI b)), some (iv (nI c)), some (iv ((nI 1 <<< (nI (Tnp T) &&& 31)) - nI 1)), some (iv (nI k))] [] τ := by
    intro m
    induction m with
    | zero =>
      intro k hk he
      refine hP _ _ _ _ (And.intro (fun _ => ⟨nar1, by rw [he]; rfl, rfl⟩) (fun q => absurd (nI_le (by omega) (by omega)) q))
    | succ m ih =>
      intro k hk he
      have ei : ∀ u, nI 24 * nI u + nI k = nI (24 * u + k) := fun u => by rw [ix1, nI_add]
      have vv : ∀ u, u < 9 → vp_in (nI 24 * nI u + nI k) 216 := fun u hu => by rw [ei]; exact vinN (by omega) (by decide)
      have gg : ∀ u, u < Tnp T → gI τ 240 (nI 24 * nI u + nI k).toNatClampNeg = R u k := fun u hu => by rw [ei, clN (by omega), hR u hu k (by omega)]
      refine hP _ _ _ _ (And.intro (fun q => absurd q (nI_ge (by omega) (by omega))) (fun _ => And.intro (vv a (by omega)) (And.intro (vv b (by omega)) (And.intro (vv c (by omega)) (And.intro (fun q => ?_) (fun q => ⟨nar0, ?_, rfl⟩))))))
      · have q0 : gI τ 240 (nI 24 * nI a + nI k).toNatClampNeg ||| gI τ 240 (nI 24 * nI b + nI k).toNatClampNeg ||| gI τ 240 (nI 24 * nI c + nI k).toNatClampNeg = (nI 1 <<< (nI (Tnp T) &&& 31)) - nI 1 := q
        rw [gg a ha, gg b hb, gg c hc] at q0
        show P 9 [some tM, some (iv (nI a)), some (iv (nI b)), some (iv (nI c)), some (iv ((nI 1 <<< (nI (Tnp T) &&& 31)) - nI 1)), some (iv (nI k + nI 1))] [] τ
        rw [nI_add]
        refine ih (k+1) (by omega) ?_
        rw [he]
        conv => lhs; unfold allR
        rw [decide_eq_true q0]
        rfl
      · have q0 : ¬ gI τ 240 (nI 24 * nI a + nI k).toNatClampNeg ||| gI τ 240 (nI 24 * nI b + nI k).toNatClampNeg ||| gI τ 240 (nI 24 * nI c + nI k).toNatClampNeg = (nI 1 <<< (nI (Tnp T) &&& 31)) - nI 1 := q
        rw [gg a ha, gg b hb, gg c hc] at q0
        rw [he]
        unfold allR
        rw [decide_eq_false q0]
        rfl
  exact key 24 0 rfl rfl
def MDo (o : Option Dct) (σ : AS) : Prop := match o with
  | none => gI σ 200 60 = - nI 1
  | some x => gI σ 200 60 = nI x.1 ∧ (1 ≤ x.1 ∧ x.1 ≤ 3) ∧ gI σ 241 0 = nI x.2.1 ∧ gI σ 241 1 = nI x.2.2.1 ∧ gI σ 241 2 = nI x.2.2.2
theorem c_isFound (T : Twn) (h : MTn T σ) (hT : TOK T) (R : Nat → Nat → Int32) (hR : MRe T R σ) (x y z : Int32) (a b c : Nat) (hx : x = nI a) (hy : y = nI b) (hz : z = nI c) (ha : a < Tnp T) (hb : b < Tnp T) (hc : c < Tnp T) :
    MC G g l (d+3) mX6_isFound [tM, iv x, iv y, iv z] σ (fun r t => r = some (iv (bI (enough T R a b c))) ∧ mS [] [241] σ t ∧ (enough T R a b c = true → gI t 241 0 = nI a ∧ gI t 241 1 = nI b ∧ gI t 241 2 = nI c)) := by
  refine MC0 tX6_isFound rfl okX6_isFound rfl rfl rfl rfl (fun P => ?_)
  refine mcall (c_areEnough G g l d σ T h hT R hR _ _ _ a b c hx hy hz ha hb hc) (fun r τ h9 => ?_)
  obtain ⟨rfl, rfl⟩ := h9
  subst hx; subst hy; subst hz
  cases he : enough T R a b c with
  | false => exact And.intro (fun q => absurd rfl q) (fun _ => ⟨nar0, rfl, mS.rf, fun q => by cases q⟩)
  | true =>
    refine And.intro (fun _ => And.intro (vin 0 3 rfl rfl) (And.intro (vin 1 3 rfl rfl) (And.intro (vin 2 3 rfl rfl) ⟨nar1, rfl, ((mS.rf.a rfl).a rfl).a rfl, fun _ => ⟨rfl, rfl, rfl⟩⟩))) (fun q => absurd q (by decide))
set_option maxHeartbeats 4000000 in
theorem c_seeksDoctors (T : Twn) (h : MTn T σ) (hT : TOK T) (R : Nat → Nat → Int32) (hR : MRe T R σ) :
    MC G g l (d+4) mX6_seeksDoctors [tM] σ (fun r t => r = none ∧ mS [60] [241] σ t ∧ MDo (docF (enough T R) (Tnp T)) t) := by
  have h12 := hT.1
  refine MC1 tX6_seeksDoctors [8, 24, 28, 39, 55, 57, 61, 72, 83, 99, 101, 103, 105] rfl okX6_seeksDoctors rfl rfl rfl rfl (fun P hP => ?_)
  have out : ∀ (o : Option Dct) (x2 x3 x4 : Option AV) (τ : AS), mS [60] [241] σ τ → MDo o τ → o = docF (enough T R) (Tnp T) → P 105 [some tM, some (iv (nI (Tnp T))), x2, x3, x4] [] τ := by
    intro o x2 x3 x4 τ hS hD he
    subst he
    exact hP _ _ _ _ ⟨rfl, hS, hD⟩
  have cal : ∀ (τ : AS) (a b c many : Nat) (X : Nat → KN) , True := fun _ _ _ _ _ _ => trivial
  -- the third search
  have t61 : ∀ (m a : Nat) (o : Option Dct) (x3 x4 : Option AV) (τ : AS), a + m = Tnp T → mS [60] [241] σ τ → MDo o τ → orO o (findF (doc3 (enough T R) (Tnp T)) m a) = docF (enough T R) (Tnp T) → P 61 [some tM, some (iv (nI (Tnp T))), some (iv (nI a)), x3, x4] [] τ := by
    intro m
    induction m with
    | zero =>
      intro a o x3 x4 τ ha hS hD he
      refine hP _ _ _ _ (And.intro (fun _ => out o _ _ _ τ hS hD (by rw [← he]; exact (orO_none o).symm)) (fun q => absurd (nI_le (by omega) (by omega)) q))
    | succ m ih =>
      intro a o x3 x4 τ ha hS hD he
      refine hP _ _ _ _ (And.intro (fun q => absurd q (nI_ge (by omega) (by omega))) (fun _ => And.intro (fun q => ?_) (fun q => ?_)))
      · cases o with
        | none => exact absurd hD q
        | some z => exact out (some z) _ _ _ τ hS hD he
      · cases o with
        | some z => exact absurd (hD.1.symm.trans q) (nI_ne_m1 (by have := hD.2.1; omega))
        | none =>
          have t72 : ∀ (m2 b : Nat) (o : Option Dct) (x4 : Option AV) (τ : AS), b + m2 = Tnp T → mS [60] [241] σ τ → MDo o τ → orO (orO o (findF (doc3b (enough T R) (Tnp T) a) m2 b)) (findF (doc3 (enough T R) (Tnp T)) m (a+1)) = docF (enough T R) (Tnp T) → P 72 [some tM, some (iv (nI (Tnp T))), some (iv (nI a)), some (iv (nI b)), x4] [] τ := by
            intro m2
            have fin : ∀ (b : Nat) (o : Option Dct) (x4 : Option AV) (τ : AS), mS [60] [241] σ τ → MDo o τ → orO o (findF (doc3 (enough T R) (Tnp T)) m (a+1)) = docF (enough T R) (Tnp T) → P 103 [some tM, some (iv (nI (Tnp T))), some (iv (nI a)), some (iv (nI b)), x4] [] τ := by
              intro b o x4 τ hS hD he
              refine hP _ _ _ _ ?_
              show P 61 [some tM, some (iv (nI (Tnp T))), some (iv (nI a + nI 1)), some (iv (nI b)), x4] [] τ
              rw [nI_add]
              exact ih (a+1) o _ _ τ (by omega) hS hD he
            induction m2 with
            | zero =>
              intro b o x4 τ hb hS hD he
              have he : orO (orO o none) (findF (doc3 (enough T R) (Tnp T)) m (a+1)) = docF (enough T R) (Tnp T) := he
              rw [orO_none] at he
              exact hP _ _ _ _ (And.intro (fun _ => fin b o _ τ hS hD he) (fun q => absurd (nI_le (by omega) (by omega)) q))
            | succ m2 ih2 =>
              intro b o x4 τ hb hS hD he
              refine hP _ _ _ _ (And.intro (fun q => absurd q (nI_ge (by omega) (by omega))) (fun _ => And.intro (fun q => ?_) (fun q => ?_)))
              · cases o with
                | none => exact absurd hD q
                | some z => exact fin b (some z) _ τ hS hD he
              · cases o with
                | some z => exact absurd (hD.1.symm.trans q) (nI_ne_m1 (by have := hD.2.1; omega))
                | none =>
                  have t83 : ∀ (m3 c : Nat) (o : Option Dct) (τ : AS), c + m3 = Tnp T → mS [60] [241] σ τ → MDo o τ → orO (orO (orO o (findF (doc3c (enough T R) a b) m3 c)) (findF (doc3b (enough T R) (Tnp T) a) m2 (b+1))) (findF (doc3 (enough T R) (Tnp T)) m (a+1)) = docF (enough T R) (Tnp T) → P 83 [some tM, some (iv (nI (Tnp T))), some (iv (nI a)), some (iv (nI b)), some (iv (nI c))] [] τ := by
                    intro m3
                    have fin2 : ∀ (c : Nat) (o : Option Dct) (τ : AS), mS [60] [241] σ τ → MDo o τ → orO (orO o (findF (doc3b (enough T R) (Tnp T) a) m2 (b+1))) (findF (doc3 (enough T R) (Tnp T)) m (a+1)) = docF (enough T R) (Tnp T) → P 101 [some tM, some (iv (nI (Tnp T))), some (iv (nI a)), some (iv (nI b)), some (iv (nI c))] [] τ := by
                      intro c o τ hS hD he
                      refine hP _ _ _ _ ?_
                      show P 72 [some tM, some (iv (nI (Tnp T))), some (iv (nI a)), some (iv (nI b + nI 1)), some (iv (nI c))] [] τ
                      rw [nI_add]
                      exact ih2 (b+1) o _ τ (by omega) hS hD he
                    induction m3 with
                    | zero =>
                      intro c o τ hc hS hD he
                      have he : orO (orO (orO o none) (findF (doc3b (enough T R) (Tnp T) a) m2 (b+1))) (findF (doc3 (enough T R) (Tnp T)) m (a+1)) = docF (enough T R) (Tnp T) := he
                      rw [orO_none] at he
                      exact hP _ _ _ _ (And.intro (fun _ => fin2 c o τ hS hD he) (fun q => absurd (nI_le (by omega) (by omega)) q))
                    | succ m3 ih3 =>
                      intro c o τ hc hS hD he
                      refine hP _ _ _ _ (And.intro (fun q => absurd q (nI_ge (by omega) (by omega))) (fun _ => And.intro (fun q => ?_) (fun q => ?_)))
                      · cases o with
                        | none => exact absurd hD q
                        | some z => exact fin2 c (some z) τ hS hD he
                      · cases o with
                        | some z => exact absurd (hD.1.symm.trans q) (nI_ne_m1 (by have := hD.2.1; omega))
                        | none =>
                          have next : ∀ (o : Option Dct) (τ : AS), mS [60] [241] σ τ → MDo o τ → orO (orO (orO o (findF (doc3c (enough T R) a b) m3 (c+1))) (findF (doc3b (enough T R) (Tnp T) a) m2 (b+1))) (findF (doc3 (enough T R) (Tnp T)) m (a+1)) = docF (enough T R) (Tnp T) → P 99 [some tM, some (iv (nI (Tnp T))), some (iv (nI a)), some (iv (nI b)), some (iv (nI c))] [] τ := by
                            intro o τ a1 a2 a3
                            refine hP _ _ _ _ ?_
                            show P 83 [some tM, some (iv (nI (Tnp T))), some (iv (nI a)), some (iv (nI b)), some (iv (nI c + nI 1))] [] τ
                            rw [nI_add]
                            exact ih3 (c+1) o τ (by omega) a1 a2 a3
                          rw [findF_step] at he
                          refine mcall (c_isFound G g l d τ T (h.keep hS rfl) hT R (hR.keep hS rfl) _ _ _ a b c rfl rfl rfl (by omega) (by omega) (by omega)) (fun r s1 h9 => ?_)
                          obtain ⟨rfl, S1, D1⟩ := h9
                          have S1' := hS.tr (S1.mono (fs' := [60]) (ids' := [241]) rfl rfl)
                          cases hE : enough T R a b c with
                          | false =>
                            have e1 : doc3c (enough T R) a b c = none := by unfold doc3c ifO; rw [hE]; rfl
                            rw [e1] at he
                            exact And.intro (fun _ => next none s1 S1' (by show gI s1 200 60 = _; rw [S1.i 200 60 rfl rfl]; exact hD) he) (fun q => absurd rfl q)
                          | true =>
                            have e1 : doc3c (enough T R) a b c = some (3, a, b, c) := by unfold doc3c ifO; rw [hE]; rfl
                            rw [e1] at he
                            refine And.intro (fun q => absurd q (by decide)) (fun _ => ?_)
                            refine next (some (3, a, b, c)) _ (S1'.f rfl) ?_ he
                            obtain ⟨d1, d2, d3⟩ := D1 hE
                            exact ⟨rfl, ⟨by show 1 ≤ 3; omega, by show 3 ≤ 3; omega⟩, d1, d2, d3⟩
                  have e3 : findF (doc3b (enough T R) (Tnp T) a) (m2+1) b = orO (findF (doc3c (enough T R) a b) (Tnp T - (b+1)) (b+1)) (findF (doc3b (enough T R) (Tnp T) a) m2 (b+1)) := findF_step _ _ _
                  rw [e3] at he
                  show P 83 [some tM, some (iv (nI (Tnp T))), some (iv (nI a)), some (iv (nI b)), some (iv (nI b + nI 1))] [] τ
                  rw [nI_add]
                  exact t83 (Tnp T - (b+1)) (b+1) none τ (by omega) hS hD he
          have e3 : findF (doc3 (enough T R) (Tnp T)) (m+1) a = orO (findF (doc3b (enough T R) (Tnp T) a) (Tnp T - (a+1)) (a+1)) (findF (doc3 (enough T R) (Tnp T)) m (a+1)) := findF_step _ _ _
          rw [e3] at he
          show P 72 [some tM, some (iv (nI (Tnp T))), some (iv (nI a)), some (iv (nI a + nI 1)), x4] [] τ
          rw [nI_add]
          exact t72 (Tnp T - (a+1)) (a+1) none _ τ (by omega) hS hD he
  -- the second search
  have t28 : ∀ (m a : Nat) (o : Option Dct) (x3 x4 : Option AV) (τ : AS), a + m = Tnp T → mS [60] [241] σ τ → MDo o τ → orO (orO o (findF (doc2 (enough T R) (Tnp T)) m a)) (findF (doc3 (enough T R) (Tnp T)) (Tnp T) 0) = docF (enough T R) (Tnp T) → P 28 [some tM, some (iv (nI (Tnp T))), some (iv (nI a)), x3, x4] [] τ := by
    intro m
    have fin : ∀ (o : Option Dct) (x3 x4 : Option AV) (τ : AS), mS [60] [241] σ τ → MDo o τ → orO o (findF (doc3 (enough T R) (Tnp T)) (Tnp T) 0) = docF (enough T R) (Tnp T) → P 61 [some tM, some (iv (nI (Tnp T))), some (iv (nI 0)), x3, x4] [] τ := fun o x3 x4 τ hS hD he => t61 (Tnp T) 0 o x3 x4 τ (by omega) hS hD he
    induction m with
    | zero =>
      intro a o x3 x4 τ ha hS hD he
      have he : orO (orO o none) (findF (doc3 (enough T R) (Tnp T)) (Tnp T) 0) = docF (enough T R) (Tnp T) := he
      rw [orO_none] at he
      exact hP _ _ _ _ (And.intro (fun _ => fin o _ _ τ hS hD he) (fun q => absurd (nI_le (by omega) (by omega)) q))
    | succ m ih =>
      intro a o x3 x4 τ ha hS hD he
      refine hP _ _ _ _ (And.intro (fun q => absurd q (nI_ge (by omega) (by omega))) (fun _ => And.intro (fun q => ?_) (fun q => ?_)))
      · cases o with
        | none => exact absurd hD q
        | some z => exact fin (some z) _ _ τ hS hD he
      · cases o with
        | some z => exact absurd (hD.1.symm.trans q) (nI_ne_m1 (by have := hD.2.1; omega))
        | none =>
          have t39 : ∀ (m2 b : Nat) (o : Option Dct) (τ : AS), b + m2 = Tnp T → mS [60] [241] σ τ → MDo o τ → orO (orO (orO o (findF (doc2b (enough T R) a) m2 b)) (findF (doc2 (enough T R) (Tnp T)) m (a+1))) (findF (doc3 (enough T R) (Tnp T)) (Tnp T) 0) = docF (enough T R) (Tnp T) → P 39 [some tM, some (iv (nI (Tnp T))), some (iv (nI a)), some (iv (nI b)), x4] [] τ := by
            intro m2
            have fin2 : ∀ (b : Nat) (o : Option Dct) (τ : AS), mS [60] [241] σ τ → MDo o τ → orO (orO o (findF (doc2 (enough T R) (Tnp T)) m (a+1))) (findF (doc3 (enough T R) (Tnp T)) (Tnp T) 0) = docF (enough T R) (Tnp T) → P 57 [some tM, some (iv (nI (Tnp T))), some (iv (nI a)), some (iv (nI b)), x4] [] τ := by
              intro b o τ hS hD he
              refine hP _ _ _ _ ?_
              show P 28 [some tM, some (iv (nI (Tnp T))), some (iv (nI a + nI 1)), some (iv (nI b)), x4] [] τ
              rw [nI_add]
              exact ih (a+1) o _ _ τ (by omega) hS hD he
            induction m2 with
            | zero =>
              intro b o τ hb hS hD he
              have he : orO (orO (orO o none) (findF (doc2 (enough T R) (Tnp T)) m (a+1))) (findF (doc3 (enough T R) (Tnp T)) (Tnp T) 0) = docF (enough T R) (Tnp T) := he
              rw [orO_none] at he
              exact hP _ _ _ _ (And.intro (fun _ => fin2 b o τ hS hD he) (fun q => absurd (nI_le (by omega) (by omega)) q))
            | succ m2 ih2 =>
              intro b o τ hb hS hD he
              refine hP _ _ _ _ (And.intro (fun q => absurd q (nI_ge (by omega) (by omega))) (fun _ => And.intro (fun q => ?_) (fun q => ?_)))
              · cases o with
                | none => exact absurd hD q
                | some z => exact fin2 b (some z) τ hS hD he
              · cases o with
                | some z => exact absurd (hD.1.symm.trans q) (nI_ne_m1 (by have := hD.2.1; omega))
                | none =>
                  have next : ∀ (o : Option Dct) (τ : AS), mS [60] [241] σ τ → MDo o τ → orO (orO (orO o (findF (doc2b (enough T R) a) m2 (b+1))) (findF (doc2 (enough T R) (Tnp T)) m (a+1))) (findF (doc3 (enough T R) (Tnp T)) (Tnp T) 0) = docF (enough T R) (Tnp T) → P 55 [some tM, some (iv (nI (Tnp T))), some (iv (nI a)), some (iv (nI b)), x4] [] τ := by
                    intro o τ a1 a2 a3
                    refine hP _ _ _ _ ?_
                    show P 39 [some tM, some (iv (nI (Tnp T))), some (iv (nI a)), some (iv (nI b + nI 1)), x4] [] τ
                    rw [nI_add]
                    exact ih2 (b+1) o τ (by omega) a1 a2 a3
                  rw [findF_step] at he
                  refine mcall (c_isFound G g l d τ T (h.keep hS rfl) hT R (hR.keep hS rfl) _ _ _ a b b rfl rfl rfl (by omega) (by omega) (by omega)) (fun r s1 h9 => ?_)
                  obtain ⟨rfl, S1, D1⟩ := h9
                  have S1' := hS.tr (S1.mono (fs' := [60]) (ids' := [241]) rfl rfl)
                  cases hE : enough T R a b b with
                  | false =>
                    have e1 : doc2b (enough T R) a b = none := by unfold doc2b ifO; rw [hE]; rfl
                    rw [e1] at he
                    exact And.intro (fun _ => next none s1 S1' (by show gI s1 200 60 = _; rw [S1.i 200 60 rfl rfl]; exact hD) he) (fun q => absurd rfl q)
                  | true =>
                    have e1 : doc2b (enough T R) a b = some (2, a, b, b) := by unfold doc2b ifO; rw [hE]; rfl
                    rw [e1] at he
                    refine And.intro (fun q => absurd q (by decide)) (fun _ => ?_)
                    refine next (some (2, a, b, b)) _ (S1'.f rfl) ?_ he
                    obtain ⟨d1, d2, d3⟩ := D1 hE
                    exact ⟨rfl, ⟨by show 1 ≤ 2; omega, by show 2 ≤ 3; omega⟩, d1, d2, d3⟩
          have e3 : findF (doc2 (enough T R) (Tnp T)) (m+1) a = orO (findF (doc2b (enough T R) a) (Tnp T - (a+1)) (a+1)) (findF (doc2 (enough T R) (Tnp T)) m (a+1)) := findF_step _ _ _
          rw [e3] at he
          show P 39 [some tM, some (iv (nI (Tnp T))), some (iv (nI a)), some (iv (nI a + nI 1)), x4] [] τ
          rw [nI_add]
          exact t39 (Tnp T - (a+1)) (a+1) none τ (by omega) hS hD he
  -- the first search
  have t8 : ∀ (m a : Nat) (o : Option Dct) (τ : AS), a + m = Tnp T → mS [60] [241] σ τ → MDo o τ → orO (orO (orO o (findF (doc1 (enough T R)) m a)) (findF (doc2 (enough T R) (Tnp T)) (Tnp T) 0)) (findF (doc3 (enough T R) (Tnp T)) (Tnp T) 0) = docF (enough T R) (Tnp T) → P 8 [some tM, some (iv (nI (Tnp T))), some (iv (nI a)), none, none] [] τ := by
    intro m
    have fin : ∀ (o : Option Dct) (τ : AS), mS [60] [241] σ τ → MDo o τ → orO (orO o (findF (doc2 (enough T R) (Tnp T)) (Tnp T) 0)) (findF (doc3 (enough T R) (Tnp T)) (Tnp T) 0) = docF (enough T R) (Tnp T) → P 28 [some tM, some (iv (nI (Tnp T))), some (iv (nI 0)), none, none] [] τ := fun o τ hS hD he => t28 (Tnp T) 0 o none none τ (by omega) hS hD he
    induction m with
    | zero =>
      intro a o τ ha hS hD he
      have he : orO (orO (orO o none) (findF (doc2 (enough T R) (Tnp T)) (Tnp T) 0)) (findF (doc3 (enough T R) (Tnp T)) (Tnp T) 0) = docF (enough T R) (Tnp T) := he
      rw [orO_none] at he
      exact hP _ _ _ _ (And.intro (fun _ => fin o τ hS hD he) (fun q => absurd (nI_le (by omega) (by omega)) q))
    | succ m ih =>
      intro a o τ ha hS hD he
      refine hP _ _ _ _ (And.intro (fun q => absurd q (nI_ge (by omega) (by omega))) (fun _ => And.intro (fun q => ?_) (fun q => ?_)))
      · cases o with
        | none => exact absurd hD q
        | some z => exact fin (some z) τ hS hD he
      · cases o with
        | some z => exact absurd (hD.1.symm.trans q) (nI_ne_m1 (by have := hD.2.1; omega))
        | none =>
          have next : ∀ (o : Option Dct) (τ : AS), mS [60] [241] σ τ → MDo o τ → orO (orO (orO o (findF (doc1 (enough T R)) m (a+1))) (findF (doc2 (enough T R) (Tnp T)) (Tnp T) 0)) (findF (doc3 (enough T R) (Tnp T)) (Tnp T) 0) = docF (enough T R) (Tnp T) → P 24 [some tM, some (iv (nI (Tnp T))), some (iv (nI a)), none, none] [] τ := by
            intro o τ a1 a2 a3
            refine hP _ _ _ _ ?_
            show P 8 [some tM, some (iv (nI (Tnp T))), some (iv (nI a + nI 1)), none, none] [] τ
            rw [nI_add]
            exact ih (a+1) o τ (by omega) a1 a2 a3
          rw [findF_step] at he
          refine mcall (c_isFound G g l d τ T (h.keep hS rfl) hT R (hR.keep hS rfl) _ _ _ a a a rfl rfl rfl (by omega) (by omega) (by omega)) (fun r s1 h9 => ?_)
          obtain ⟨rfl, S1, D1⟩ := h9
          have S1' := hS.tr (S1.mono (fs' := [60]) (ids' := [241]) rfl rfl)
          cases hE : enough T R a a a with
          | false =>
            have e1 : doc1 (enough T R) a = none := by unfold doc1 ifO; rw [hE]; rfl
            rw [e1] at he
            exact And.intro (fun _ => next none s1 S1' (by show gI s1 200 60 = _; rw [S1.i 200 60 rfl rfl]; exact hD) he) (fun q => absurd rfl q)
          | true =>
            have e1 : doc1 (enough T R) a = some (1, a, a, a) := by unfold doc1 ifO; rw [hE]; rfl
            rw [e1] at he
            refine And.intro (fun q => absurd q (by decide)) (fun _ => ?_)
            refine next (some (1, a, a, a)) _ (S1'.f rfl) ?_ he
            obtain ⟨d1, d2, d3⟩ := D1 hE
            exact ⟨rfl, ⟨by show 1 ≤ 1; omega, by show 1 ≤ 3; omega⟩, d1, d2, d3⟩
  refine hP _ _ _ _ ?_
  refine mcall (c_placeMany G g l (d+2) σ) (fun r τ h9 => ?_)
  obtain ⟨rfl, rfl⟩ := h9
  rw [h.1]
  exact t8 (Tnp T) 0 none _ (by omega) (mS.rf.f rfl) rfl rfl
set_option maxHeartbeats 2000000 in
theorem c_doctors (T : Twn) (n : Nws) (h : TN T n σ) (a b c : Int32) : MC G g l (d+13) mX6_doctors [tM, iv a, iv b, iv c] σ (fun r t => r = some (iv (q_doctors T n a b c)) ∧ mS [43, 47, 60] [228, 229, 232, 240, 241] σ t) := by
  have h12 := h.1.1
  refine MC1 tX6_doctors [21, 45] rfl okX6_doctors rfl rfl rfl rfl (fun P hP => ?_)
  have no : okDoc T a b c = false → P 21 [some tM, some (iv a), some (iv b), some (iv c)] [] σ := by
    intro e
    refine hP _ _ _ _ ⟨?_, mS.rf⟩
    unfold q_doctors
    rw [if_neg (by rw [e]; decide)]
  refine hP _ _ _ _ ?_
  refine mcall (c_isIn G g l (d+11) _ _ _ _) (fun r s' h9 => ?_)
  obtain ⟨rfl, rfl⟩ := h9
  rw [btw_long (a := 1) (b := 99) (by decide) (by decide)]
  cases ha : btw a 1 99 with
  | false => exact And.intro (fun _ => no (by unfold okDoc; rw [ha]; rfl)) (fun q => absurd rfl q)
  | true =>
    refine And.intro (fun q => absurd q (by decide)) (fun _ => ?_)
    refine mcall (c_isIn G g l (d+11) _ _ _ _) (fun r s' h9 => ?_)
    obtain ⟨rfl, rfl⟩ := h9
    rw [btw_long (a := 0) (b := 400) (by decide) (by decide)]
    cases hb : btw b 0 400 with
    | false => exact And.intro (fun _ => no (by unfold okDoc; rw [ha, hb]; rfl)) (fun q => absurd rfl q)
    | true =>
      refine And.intro (fun q => absurd q (by decide)) (fun _ => ?_)
      refine mcall (c_placeMany G g l (d+11) s') (fun r s' h9 => ?_)
      obtain ⟨rfl, rfl⟩ := h9
      rw [h.2.2.1.1]
      refine And.intro (fun q => ?_) (fun q => ?_)
      · have q0 := (nI_eq (by omega) (by omega)).mp q
        exact no (by unfold okDoc; rw [ha, hb, decide_eq_false (fun e => e q0)]; rfl)
      · have q0 : Tnp T ≠ 0 := fun e => q (by rw [e])
        refine mcall (c_isIn G g l (d+11) _ _ _ _) (fun r s' h9 => ?_)
        obtain ⟨rfl, rfl⟩ := h9
        have ein : decide (- lN 1 ≤ c.toInt64 ∧ c.toInt64 ≤ lN 2) = (decide (c = - nI 1) || inR c 3) := in1_long (b := c) (k := 3) (by omega)
        rw [ein]
        have eok : okDoc T a b c = (decide (c = - nI 1) || inR c 3) := by unfold okDoc; rw [ha, hb, decide_eq_true q0]; rfl
        cases hc : (decide (c = - nI 1) || inR c 3) with
        | false => exact And.intro (fun q => absurd rfl q) (fun _ => no (by rw [eok, hc]))
        | true =>
          rw [hc] at eok
          refine And.intro (fun _ => ?_) (fun q => absurd q (by decide))
          obtain ⟨br, hb1, hb2, rfl⟩ := btw_of ha (by decide)
          obtain ⟨wi, hw1, hw2, rfl⟩ := btw_of hb (by decide)
          have cb : (nI br).toNatClampNeg = br := clN (by omega)
          have cwi : (nI wi).toNatClampNeg = wi := clN (by omega)
          have eq : q_doctors T n (nI br) (nI wi) c = docI c (docF (enough T (rchS T n br wi)) (Tnp T)) := by unfold q_doctors; rw [if_pos eok, cb, cwi]
          refine mcall (c_reaches G g l d s' T n h _ _ br wi rfl rfl (by omega) hw2) (fun r s1 h9 => ?_)
          obtain ⟨rfl, S1, R1⟩ := h9
          refine mcall (c_seeksDoctors G g l (d+8) s1 T (h.2.2.1.keep S1 rfl) h.1 _ R1) (fun r s2 h9 => ?_)
          obtain ⟨rfl, S2, D2⟩ := h9
          have SS : mS [43, 47, 60] [228, 229, 232, 240, 241] s' s2 := (S1.mono rfl rfl).tr (S2.mono rfl rfl)
          generalize docF (enough T (rchS T n br wi)) (Tnp T) = o at D2 eq
          have fin : ∀ (x : Int32), x = docI c o → P 45 [some tM, some (iv (nI br)), some (iv (nI wi)), some (iv c)] [iv x] s2 := by
            intro x hx
            exact hP _ _ _ _ ⟨by rw [eq, hx], SS⟩
          refine And.intro (fun q => ?_) (fun q => ?_)
          · have hc1 : ¬ c = - nI 1 := q
            have hin : inR c 3 = true := by
              rw [decide_eq_false hc1, Bool.false_or] at hc
              exact hc
            obtain ⟨j, hj, rfl⟩ := inR_of hin (by omega)
            have cj : (nI j).toNatClampNeg = j := clN (by omega)
            cases o with
            | none =>
              have h60 : gI s2 200 60 = - nI 1 := D2
              refine And.intro (fun _ => fin _ rfl) (fun q => absurd ?_ q)
              show gI s2 200 60 ≤ nI j
              rw [h60, Int32.le_iff_toInt_le, nI_toInt (by omega), show (- nI 1).toInt = -1 by decide]
              omega
            | some z =>
              obtain ⟨h60, hz, z0, z1, z2⟩ := D2
              refine And.intro (fun q => ?_) (fun q => And.intro (show vp_in (nI j) 3 from vinN hj (by decide)) ?_)
              · have q1 : gI s2 200 60 ≤ nI j := q
                rw [h60, nI_leI (by omega) (by omega)] at q1
                refine fin _ ?_
                show _ = if _ then _ else _
                rw [if_neg hc1, cj, if_neg (by omega)]
              · have q1 : ¬ gI s2 200 60 ≤ nI j := q
                rw [h60, nI_leI (by omega) (by omega)] at q1
                refine fin (gI s2 241 (nI j).toNatClampNeg) ?_
                rw [cj]
                show _ = if _ then _ else _
                rw [if_neg hc1, cj, if_pos (by omega)]
                have : j = 0 ∨ j = 1 ∨ j = 2 := by omega
                rcases this with rfl | rfl | rfl
                · exact z0
                · exact z1
                · exact z2
          · have hc1 : c = - nI 1 := q
            refine fin (gI s2 200 60) ?_
            cases o with
            | none => exact D2
            | some z =>
              rw [D2.1]
              show _ = if _ then _ else _
              rw [if_pos hc1]
end DO_
