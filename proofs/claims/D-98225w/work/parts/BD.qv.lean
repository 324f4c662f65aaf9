/-! the questions' codes, told -/
def stepQ (pt : Nat → Int) (qf : Nat → Int → Int) (c : Nat) (st : List Int) : List Int :=
  if 1000 ≤ c then ((c - 1000 : Nat) : Int) :: st
  else if 60 ≤ c then (match st with
    | v :: r => qf (c - 60) v :: r
    | [] => [])
  else if 40 ≤ c then pt (c - 40) :: st
  else if c = 13 then 1 :: st
  else if c = 12 then (match st with
    | v :: r => (1 - v) :: r
    | [] => [])
  else match st with
    | b :: a :: r => opQ c a b :: r
    | _ => []
def evalQ (pt : Nat → Int) (qf : Nat → Int → Int) : List Nat → List Int → List Int
  | [], st => st
  | c :: cs, st => evalQ pt qf cs (stepQ pt qf c st)
def kOK (b : Bool) (v : Int) : Prop := mid v ∧ (b = true → v = 0 ∨ v = 1)
def PT : List Bool → List Int → Prop
  | [], [] => True
  | b :: bs, v :: vs => kOK b v ∧ PT bs vs
  | _, _ => False
theorem tyS_inv {c : Nat} {ts ts' : List Bool} (h : tyS c ts = some ts') : (((1000 ≤ c ∧ c ≤ 10999) ∨ (40 ≤ c ∧ c ≤ 42)) ∧ ts' = false :: ts) ∨ (c = 13 ∧ ts' = true :: ts) ∨ ((60 ≤ c ∧ c ≤ 62) ∧ ∃ r, ts = false :: r ∧ ts' = false :: r) ∨ (c = 12 ∧ ∃ r, ts = true :: r ∧ ts' = true :: r) ∨ ((1 ≤ c ∧ c ≤ 6) ∧ ∃ r, ts = false :: false :: r ∧ ts' = false :: r) ∨ ((7 ≤ c ∧ c ≤ 9) ∧ ∃ r, ts = false :: false :: r ∧ ts' = true :: r) ∨ ((10 ≤ c ∧ c ≤ 11) ∧ ∃ r, ts = true :: true :: r ∧ ts' = true :: r) := by
  unfold tyS at h
  split at h
  · rename_i e; cases h; exact Or.inl ⟨psh_T.mp e, rfl⟩
  split at h
  · rename_i e; cases h; exact Or.inr (Or.inl ⟨e, rfl⟩)
  split at h
  · rename_i e
    split at h
    · cases h; exact Or.inr (Or.inr (Or.inl ⟨e, _, rfl, rfl⟩))
    · cases h
  split at h
  · rename_i e
    split at h
    · cases h; exact Or.inr (Or.inr (Or.inr (Or.inl ⟨e, _, rfl, rfl⟩)))
    · cases h
  split at h
  · rename_i e
    split at h
    · cases h; exact Or.inr (Or.inr (Or.inr (Or.inr (Or.inl ⟨e, _, rfl, rfl⟩))))
    · cases h
  split at h
  · rename_i e
    split at h
    · cases h; exact Or.inr (Or.inr (Or.inr (Or.inr (Or.inr (Or.inl ⟨e, _, rfl, rfl⟩)))))
    · cases h
  split at h
  · rename_i e
    split at h
    · cases h; exact Or.inr (Or.inr (Or.inr (Or.inr (Or.inr (Or.inr ⟨e, _, rfl, rfl⟩)))))
    · cases h
  · cases h
theorem PT.one {b : Bool} {bs : List Bool} {st : List Int} (h : PT (b :: bs) st) : ∃ v r, st = v :: r ∧ kOK b v ∧ PT bs r := by
  cases st with
  | nil => exact h.elim
  | cons v r => exact ⟨v, r, rfl, h.1, h.2⟩
theorem pile_tl {id : Nat} {τ : AS} {st : List Int} {a : Int} (h : pileOK id τ (a :: st)) : pileOK id τ st := by
  intro i w hw
  refine h i w ?_
  have hi : i < st.reverse.length := (List.getElem?_eq_some_iff.mp hw).1
  rw [List.reverse_cons, List.getElem?_append_left hi]
  exact hw
theorem pile_t1 {id : Nat} {τ : AS} {st : List Int} {a : Int} (h : pileOK id τ (a :: st)) : gL τ id st.length = zL a ∧ mid a := h st.length a (by simp)
theorem opQ_ok {c : Nat} {a b : Int} (ha : mid a) (hb : mid b) : (1 ≤ c ∧ c ≤ 6 → kOK false (opQ c a b)) ∧ (7 ≤ c ∧ c ≤ 9 → kOK true (opQ c a b)) ∧ (10 ≤ c ∧ c ≤ 11 → (a = 0 ∨ a = 1) → (b = 0 ∨ b = 1) → kOK true (opQ c a b)) := by
  have m0 : mid 0 := ⟨by omega, by omega⟩
  have m1 : mid 1 := ⟨by omega, by omega⟩
  have k0 : kOK true 0 := ⟨m0, fun _ => Or.inl rfl⟩
  have k1 : kOK true 1 := ⟨m1, fun _ => Or.inr rfl⟩
  refine ⟨fun h => ?_, fun h => ?_, fun h h1 h2 => ?_⟩
  · rw [opQ_z _ _ h.2]
    exact ⟨opZ_mid ha hb, fun q => by cases q⟩
  · have : c = 7 ∨ c = 8 ∨ c = 9 := by omega
    rcases this with rfl | rfl | rfl
    · show kOK true (if a < b then 1 else 0)
      split
      · exact k1
      · exact k0
    · show kOK true (if b < a then 1 else 0)
      split
      · exact k1
      · exact k0
    · show kOK true (if a = b then 1 else 0)
      split
      · exact k1
      · exact k0
  · have : c = 10 ∨ c = 11 := by omega
    rcases this with rfl | rfl
    · show kOK true (a * b)
      rcases h1 with rfl | rfl <;> rcases h2 with rfl | rfl
      · exact k0
      · exact k0
      · exact k0
      · exact k1
    · show kOK true (if 0 < a + b then 1 else 0)
      split
      · exact k1
      · exact k0
section QV_
variable (G : CX) (g : GX) (l : Launch) (d : Nat) (σ : AS)
set_option maxRecDepth 20000 in
set_option maxHeartbeats 2000000 in
theorem c_qTold (T : Twn) (n : Nws) (h : TN T n σ) (cs : List Nat) (b : Bool) (x : Int32) (i : Nat) (hx : x = nI i) (hi : i ≤ 900000) (hn : gI σ 200 89 = nI cs.length) (hl : cs.length ≤ 1600) (hc : ∀ (j c : Nat), cs[j]? = some c → gI σ 264 j = nI c) (hw : tyq cs [] = some [b]) :
    MC G g l (d+10) mX6_qTold [tM, iv x] σ (fun r t => (∃ v, (evalQ (fun k => clipZ (ptQ k i)) (fun k z => clipZ (ofQ T n k z i)) cs [])[0]? = some v ∧ kOK b v ∧ r = some (jv (zL v))) ∧ mS [43, 95] [228, 229, 266] σ t) := by
  subst hx
  generalize hpt : (fun k => clipZ (ptQ k i)) = pt
  generalize hqf : (fun k z => clipZ (ofQ T n k z i)) = qf
  refine MC1 tX6_qTold [5, 92] rfl okX6_qTold rfl rfl rfl rfl (fun P hP => ?_)
  have key : ∀ (cs' : List Nat) (k : Nat) (st : List Int) (ts : List Bool) (x3 : Option AV) (τ : AS), cs' = cs.drop k → k ≤ cs.length → mS [43, 95] [228, 229, 266] σ τ → gI τ 200 95 = nI st.length → st.length ≤ k → pileOK 266 τ st → PT ts st → tyq cs' ts = some [b] → evalQ pt qf cs' st = evalQ pt qf cs [] → P 5 [some tM, some (iv (nI i)), some (iv (nI k)), x3] [] τ := by
    intro cs'
    induction cs' with
    | nil =>
      intro k st ts x3 τ hcs hk hS hp hle hpl hty htq hev
      have hk2 : k = cs.length := by
        have := congrArg List.length hcs
        simp at this
        omega
      have hnτ : gI τ 200 89 = nI cs.length := by rw [hS.i 200 89 rfl rfl]; exact hn
      refine hP _ _ _ _ (And.intro (fun _ => And.intro (vin 0 1700 rfl rfl) ?_) (fun q => absurd (show gI τ 200 89 ≤ nI k from by rw [hnτ]; exact nI_le (by omega) (by omega)) q))
      have e1 : ts = [b] := Option.some.inj htq
      subst e1
      obtain ⟨v, r, rfl, k1, k2⟩ := hty.one
      cases r with
      | cons u r => exact k2.elim
      | nil =>
        refine ⟨⟨v, by rw [← hev]; rfl, k1, ?_⟩, hS⟩
        show some (Sum.inr (Sum.inl (gL τ 266 0))) = _
        rw [show gL τ 266 0 = zL v from (pile_t1 hpl).1]
    | cons c cs' ih =>
      intro k st ts x3 τ hcs hk hS hp hle hpl hty htq hev
      have hk2 : k < cs.length := by
        have := congrArg List.length hcs
        simp at this
        omega
      have hck : cs[k]? = some c := by
        have := congrArg (fun l => l[0]?) hcs
        simp at this
        exact this.symm
      have hcs' : cs' = cs.drop (k+1) := by
        have := congrArg List.tail hcs
        simpa using this
      have hnτ : gI τ 200 89 = nI cs.length := by rw [hS.i 200 89 rfl rfl]; exact hn
      have hv : gI τ 264 (nI k).toNatClampNeg = nI c := by rw [clN (by omega), hS.ia 264 rfl rfl]; exact hc k c hck
      have hT := h.keep hS rfl rfl
      obtain ⟨ts', ht1, ht2⟩ : ∃ ts', tyS c ts = some ts' ∧ tyq cs' ts' = some [b] := by
        have htq : (tyS c ts).bind (tyq cs') = some [b] := htq
        cases hts : tyS c ts with
        | none => rw [hts] at htq; cases htq
        | some z => rw [hts] at htq; exact ⟨z, rfl, htq⟩
      have next : ∀ (st' : List Int) (s : AS) (x3 : Option AV), mS [43, 95] [228, 229, 266] τ s → gI s 200 95 = nI st'.length → st'.length ≤ k + 1 → pileOK 266 s st' → PT ts' st' → stepQ pt qf c st = st' → P 92 [some tM, some (iv (nI i)), some (iv (nI k)), x3] [] s := by
        intro st' s x3 h1 h2 h3 h4 h5 h6
        refine hP _ _ _ _ ?_
        show P 5 [some tM, some (iv (nI i)), some (iv (nI k + nI 1)), x3] [] s
        rw [nI_add]
        refine ih (k+1) st' ts' _ s hcs' (by omega) (hS.tr h1) h2 h3 h4 h5 ht2 ?_
        rw [← hev, ← h6]
        rfl
      have hge : ¬ gI τ 200 89 ≤ nI k := by rw [hnτ]; exact nI_ge (by omega) (by omega)
      have hx3 : vp_in (nI k) 1700 := vinN (by omega) (by decide)
      refine hP _ _ _ _ (And.intro (fun q => absurd q hge) (fun _ => And.intro hx3 ?_))
      have lt1 : ∀ m, m < 2147483648 → c < 2147483648 → (gI τ 264 (nI k).toNatClampNeg < nI m ↔ c < m) := fun m h1 h2 => by rw [hv, nI_ltI h2 h1]
      have hc9 : c ≤ 10999 := by rcases tyS_inv ht1 with q | q | q | q | q | q | q <;> omega
      have l1000 := lt1 1000 (by omega) (by omega)
      have l60 := lt1 60 (by omega) (by omega)
      have l40 := lt1 40 (by omega) (by omega)
      have e13 : gI τ 264 (nI k).toNatClampNeg = nI 13 ↔ c = 13 := by rw [hv, nI_eq (by omega) (by omega)]
      have e12 : gI τ 264 (nI k).toNatClampNeg = nI 12 ↔ c = 12 := by rw [hv, nI_eq (by omega) (by omega)]
      -- a number
      by_cases c1 : 1000 ≤ c
      · refine And.intro (fun q => absurd (l1000.mp q) (by omega)) (fun _ => ?_)
        have ets : ts' = false :: ts := by rcases tyS_inv ht1 with q | q | q | q | q | q | q <;> first | exact q.2 | omega
        refine mcall (c_qPuts G g l (d+8) τ _ st.length hp (by omega)) (fun r s2 h9 => ?_)
        obtain ⟨rfl, q1, q2, q3, q4⟩ := h9
        have hm : mid ((c - 1000 : Nat) : Int) := ⟨by omega, by omega⟩
        refine next (((c - 1000 : Nat) : Int) :: st) s2 _ (q4.mono rfl rfl) q1 (by simp; omega) (pile_push hpl ?_ hm q3) (by rw [ets]; exact ⟨⟨hm, fun q => by cases q⟩, hty⟩) (by unfold stepQ; rw [if_pos c1])
        rw [q2]
        show (gI τ 264 (nI k).toNatClampNeg - nI 1000).toInt64 = _
        rw [hv, nI_s1 _ _ c1, nI_zL (by omega)]
      refine And.intro (fun _ => ?_) (fun q => absurd (l1000.mpr (by omega)) q)
      have hp1 : ∀ (m : Nat), st.length = m + 1 → gI τ 200 95 - nI 1 = nI m := fun m hm => by rw [hp, hm, nI_s1 _ _ (by omega)]; rfl
      by_cases c2 : 60 ≤ c
      · refine And.intro (fun q => absurd (l60.mp q) (by omega)) (fun _ => ?_)
        obtain ⟨c3, r, rfl, ets⟩ : c ≤ 62 ∧ ∃ r, ts = false :: r ∧ ts' = false :: r := by rcases tyS_inv ht1 with q | q | q | q | q | q | q <;> first | exact ⟨q.1.2, q.2⟩ | omega
        obtain ⟨v, st2, rfl, k1, k2⟩ := hty.one
        have hix := hp1 st2.length rfl
        have ht := pile_t1 hpl
        simp only [List.length_cons] at hle
        have hin : vp_in (gI τ 200 95 - nI 1) 1700 := by rw [hix]; exact vinN (by omega) (by decide)
        refine And.intro hin ?_
        refine mcall (c_qOf G g l d τ T n hT _ _ _ (c - 60) i v (by rw [hv, nI_s1 _ _ c2]) (by rw [hix, clN (by omega)]; exact ht.1) ht.2 rfl (by omega) hi) (fun r s2 h9 => ?_)
        obtain ⟨rfl, S2⟩ := h9
        have hzo : inZ (ofQ T n (c - 60) v i) := by
          have w1 := wid_le T v.toNat (Nsh n v.toNat) i
          have w2 := countF_le (fun s => passF T n s (Tbr T v.toNat) i) (Tns T) 0
          have w3 := Nat.mod_le (i + Nsh n v.toNat) (Trd T v.toNat)
          have hT1 := h.1.1
          unfold ofQ
          split
          · split
            · constructor <;> omega
            · constructor <;> omega
          · split
            · split
              · rename_i hq
                have := (h.sh (s := v.toNat) (by omega)).2
                constructor <;> omega
              · constructor <;> omega
            · split
              · unfold pasN
                constructor <;> omega
              · constructor <;> omega
        refine mcall (c_qClip G g l (d+8) s2 _ _ rfl hzo) (fun r s3 h9 => ?_)
        obtain ⟨rfl, e9⟩ := h9
        subst e9
        refine And.intro hin ?_
        have S3 : mS [43, 95] [228, 229, 266] τ (sL s3 266 (gI τ 200 95 - nI 1).toNatClampNeg (zL (clipZ (ofQ T n (c - 60) v i)))) := (S2.mono rfl rfl).tr (mS.rf.al rfl)
        have hm : mid (clipZ (ofQ T n (c - 60) v i)) := clipZ_in _
        refine next (clipZ (ofQ T n (c - 60) v i) :: st2) _ _ S3 (by rw [S2.i 200 95 rfl rfl |>.symm] at hp; exact hp) (by simp; omega) (pile_push (pile_tl hpl) ?_ hm (fun j hj => ?_)) (by rw [ets]; exact ⟨⟨hm, fun q => by cases q⟩, k2⟩) (by unfold stepQ; rw [if_neg c1, if_pos c2, ← hqf])
        · rw [gL_sL, hix, clN (by omega), if_pos ⟨rfl, rfl⟩]
        · rw [gL_sL, hix, clN (by omega), if_neg (fun q => hj q.2)]
          exact S2.la 266 rfl rfl j
      refine And.intro (fun _ => ?_) (fun q => absurd (l60.mpr (by omega)) q)
      by_cases c3 : 40 ≤ c
      · refine And.intro (fun q => absurd (l40.mp q) (by omega)) (fun _ => ?_)
        obtain ⟨c4, ets⟩ : c ≤ 42 ∧ ts' = false :: ts := by rcases tyS_inv ht1 with q | q | q | q | q | q | q <;> first | exact ⟨by omega, q.2⟩ | omega
        refine mcall (c_qPartOf G g l (d+8) τ _ _ (c - 40) i (by rw [hv, nI_s1 _ _ c3]) rfl (by omega) (by omega)) (fun r s2 h9 => ?_)
        obtain ⟨rfl, e9⟩ := h9
        subst e9
        have hzp : inZ ((ptQ (c - 40) i : Nat) : Int) := by
          unfold ptQ
          split
          · constructor <;> omega
          · split <;> constructor <;> omega
        refine mcall (c_qClip G g l (d+8) s2 _ _ (lN_zL _) hzp) (fun r s3 h9 => ?_)
        obtain ⟨rfl, e9⟩ := h9
        subst e9
        refine mcall (c_qPuts G g l (d+8) s3 _ st.length hp (by omega)) (fun r s4 h9 => ?_)
        obtain ⟨rfl, q1, q2, q3, q4⟩ := h9
        have hm : mid (clipZ ((ptQ (c - 40) i : Nat) : Int)) := clipZ_in _
        exact next (clipZ ((ptQ (c - 40) i : Nat) : Int) :: st) s4 _ (q4.mono rfl rfl) q1 (by simp; omega) (pile_push hpl q2 hm q3) (by rw [ets]; exact ⟨⟨hm, fun q => by cases q⟩, hty⟩) (by unfold stepQ; rw [if_neg c1, if_neg c2, if_pos c3, ← hpt])
      refine And.intro (fun _ => ?_) (fun q => absurd (l40.mpr (by omega)) q)
      by_cases c4 : c = 13
      · refine And.intro (fun q => absurd (e13.mpr c4) q) (fun _ => ?_)
        have ets : ts' = true :: ts := by rcases tyS_inv ht1 with q | q | q | q | q | q | q <;> first | exact q.2 | omega
        refine mcall (c_qPuts G g l (d+8) τ _ st.length hp (by omega)) (fun r s4 h9 => ?_)
        obtain ⟨rfl, q1, q2, q3, q4⟩ := h9
        have hm : mid 1 := ⟨by omega, by omega⟩
        exact next (1 :: st) s4 _ (q4.mono rfl rfl) q1 (by simp; omega) (pile_push hpl q2 hm q3) (by rw [ets]; exact ⟨⟨hm, fun _ => Or.inr rfl⟩, hty⟩) (by unfold stepQ; rw [if_neg c1, if_neg c2, if_neg c3, if_pos c4])
      refine And.intro (fun _ => ?_) (fun q => absurd (e13.mp q) c4)
      by_cases c5 : c = 12
      · refine And.intro (fun q => absurd (e12.mpr c5) q) (fun _ => ?_)
        obtain ⟨r, rfl, ets⟩ : ∃ r, ts = true :: r ∧ ts' = true :: r := by rcases tyS_inv ht1 with q | q | q | q | q | q | q <;> first | exact q.2 | omega
        obtain ⟨v, st2, rfl, k1, k2⟩ := hty.one
        have hix := hp1 st2.length rfl
        have ht := pile_t1 hpl
        simp only [List.length_cons] at hle
        have hin : vp_in (gI τ 200 95 - nI 1) 1700 := by rw [hix]; exact vinN (by omega) (by decide)
        refine And.intro hin (And.intro hin ?_)
        have S3 : mS [43, 95] [228, 229, 266] τ (sL τ 266 (gI τ 200 95 - nI 1).toNatClampNeg (lN 1 - gL τ 266 (gI τ 200 95 - nI 1).toNatClampNeg)) := mS.rf.al rfl
        have hk1 := k1.2 rfl
        have hm : kOK true (1 - v) := by rcases hk1 with rfl | rfl; exact ⟨⟨by omega, by omega⟩, fun _ => Or.inr rfl⟩; exact ⟨⟨by omega, by omega⟩, fun _ => Or.inl rfl⟩
        refine next ((1 - v) :: st2) _ _ S3 hp (by simp; omega) (pile_push (pile_tl hpl) ?_ hm.1 (fun j hj => ?_)) (by rw [ets]; exact ⟨hm, k2⟩) (by unfold stepQ; rw [if_neg c1, if_neg c2, if_neg c3, if_neg c4, if_pos c5])
        · rw [gL_sL, hix, clN (by omega), if_pos ⟨rfl, rfl⟩, ht.1, lN_zL, zL_sub]; rfl
        · rw [gL_sL, hix, clN (by omega), if_neg (fun q => hj q.2)]
      refine And.intro (fun _ => ?_) (fun q => absurd (e12.mp q) c5)
      -- two are joined
      have jn : ∀ (u w : Int) (st2 : List Int) (bs : List Bool) (bb : Bool), st = w :: u :: st2 → ts' = bb :: bs → PT bs st2 → 1 ≤ c → c ≤ 11 → mid u → mid w → kOK bb (opQ c u w) → callP G (true, g) l (d+10) mX6_qJoins [tM, iv (gI τ 264 (nI k).toNatClampNeg)] τ (fun r t => r = none ∧ ∀ x3, P 92 [some tM, some (iv (nI i)), some (iv (nI k)), x3] [] t) NoX := by
        intro u w st2 bs bb es ets hbs h1 h2 hu hw9 hko
        subst es
        have ht := pile_top hpl
        simp only [List.length_cons] at hle
        refine mcall (c_qJoins G g l (d+7) τ _ c st2.length u w hv hu hw9 ⟨h1, h2⟩ hp (by omega) ht.1 ht.2.2.1) (fun r s2 h9 => ?_)
        obtain ⟨rfl, q1, q2, q3, q4⟩ := h9
        refine ⟨rfl, fun x3 => next (opQ c u w :: st2) s2 x3 (q4.mono rfl rfl) q1 (by simp; omega) (pile_op hpl q2 hko.1 q3) (by rw [ets]; exact ⟨hko, hbs⟩) ?_⟩
        unfold stepQ
        rw [if_neg c1, if_neg c2, if_neg c3, if_neg c4, if_neg c5]
      have hend : ∃ (u w : Int) (st2 : List Int) (bs : List Bool) (bb : Bool), st = w :: u :: st2 ∧ ts' = bb :: bs ∧ PT bs st2 ∧ 1 ≤ c ∧ c ≤ 11 ∧ mid u ∧ mid w ∧ kOK bb (opQ c u w) := by
        have two : ∀ (b2 : Bool) (r : List Bool), ts = b2 :: b2 :: r → ∃ (u w : Int) (st2 : List Int), st = w :: u :: st2 ∧ kOK b2 w ∧ kOK b2 u ∧ PT r st2 := by
          intro b2 r e
          subst e
          obtain ⟨w, s9, rfl, k1, k2⟩ := hty.one
          obtain ⟨u, st2, rfl, k3, k4⟩ := k2.one
          exact ⟨u, w, st2, rfl, k1, k3, k4⟩
        rcases tyS_inv ht1 with q | q | q | q | ⟨q, r, e1, e2⟩ | ⟨q, r, e1, e2⟩ | ⟨q, r, e1, e2⟩
        · omega
        · omega
        · omega
        · omega
        · obtain ⟨u, w, st2, e3, kw, ku, kp⟩ := two false r e1
          exact ⟨u, w, st2, r, false, e3, e2, kp, by omega, by omega, ku.1, kw.1, (opQ_ok ku.1 kw.1).1 q⟩
        · obtain ⟨u, w, st2, e3, kw, ku, kp⟩ := two false r e1
          exact ⟨u, w, st2, r, true, e3, e2, kp, by omega, by omega, ku.1, kw.1, (opQ_ok ku.1 kw.1).2.1 q⟩
        · obtain ⟨u, w, st2, e3, kw, ku, kp⟩ := two true r e1
          exact ⟨u, w, st2, r, true, e3, e2, kp, by omega, by omega, ku.1, kw.1, (opQ_ok ku.1 kw.1).2.2 q (ku.2 rfl) (kw.2 rfl)⟩
      obtain ⟨u, w, st2, bs, bb, j1, j2, j3, j4, j5, j6, j7, j8⟩ := hend
      obtain ⟨N9, X9, h1, h2, h3⟩ := jn u w st2 bs bb j1 j2 j3 j4 j5 j6 j7 j8
      exact ⟨N9, X9, h1, fun r s' h => by obtain ⟨e9, h8⟩ := h2 r s' h; subst e9; exact h8 _, fun s' h => (h3 s' h).elim⟩
  refine hP _ _ _ _ ?_
  exact key cs 0 [] [] none (sI σ 200 95 (nI 0)) rfl (Nat.zero_le _) (mS.rf.f rfl) rfl (Nat.le_refl _) (fun i v h => by simp at h) trivial hw rfl
end QV_
