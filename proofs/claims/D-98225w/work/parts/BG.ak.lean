/-! A QUESTION -/
def askP (tp : List Nat) : Except Flt (Nat × List Nat) := match kindP tp (skp tp 0) with
  | .error f => .error f
  | .ok z => (match (if z.1 < 3 then testP tp 0 z.2 else sumP true tp 0 z.2) with
    | .error f => .error f
    | .ok x => if tp.length ≤ x.2 then .ok (z.1, x.1) else .error (1, x.2))
def ansL (ev : Nat → Int) (k : Nat) : Nat → Nat → Int × Bool → Int × Bool
  | 0, _, A => A
  | m+1, i, A => ansL ev k m (i+1) (tkQ k (ev i) i A, false)
def evF (T : Twn) (n : Nws) (cs : List Nat) (i : Nat) : Int := (evalQ (fun k => clipZ (ptQ k i)) (fun k z => clipZ (ofQ T n k z i)) cs []).headD 0
def ansF (T : Twn) (n : Nws) (k : Nat) (cs : List Nat) : Int := (ansL (evF T n cs) k 201 (Nhr n) (if k < 2 then -1 else 0, true)).1
def AskR (T : Twn) (n : Nws) (res : Except Flt (Nat × List Nat)) (r : Option AV) (t : AS) : Prop := match res with
  | .ok x => gI t 200 7 = nI 0 ∧ gI t 200 8 = - nI 1 ∧ r = some (jv (zL (ansF T n x.1 x.2)))
  | .error f => gI t 200 7 = nI f.1 ∧ gI t 200 8 = nI f.2 ∧ r = some (jv (- lN 1000000000000000))
def aS (σ t : AS) : Prop := mS [1, 2, 3, 4, 5, 6, 7, 8, 43, 89, 91, 92, 93, 95, 96, 97] [228, 229, 264, 265, 266] σ t
theorem kindP_ok {tp : List Nat} {a : Nat} {z : Nat × Nat} (h : kindP tp a = .ok z) : z.1 < 6 ∧ a < z.2 ∧ z.2 ≤ tp.length := by
  have key : ∀ (w : List Nat), 1 ≤ w.length → kw tp w a = true → a < skp tp (a + w.length) ∧ skp tp (a + w.length) ≤ tp.length := by
    intro w hw hk
    have k1 := kwL hk
    have k2 := skp_ge tp (a + w.length)
    exact ⟨by omega, skp_le k1⟩
  unfold kindP at h
  split at h
  · rename_i e; cases h; exact ⟨by show 0 < 6; omega, key wFirst (by decide) e⟩
  split at h
  · rename_i e; cases h; exact ⟨by show 1 < 6; omega, key wLast (by decide) e⟩
  split at h
  · rename_i e; cases h; exact ⟨by show 2 < 6; omega, key wOften (by decide) e⟩
  split at h
  · rename_i e; cases h; exact ⟨by show 3 < 6; omega, key wTotal (by decide) e⟩
  split at h
  · rename_i e; cases h; exact ⟨by show 4 < 6; omega, key wMost (by decide) e⟩
  cases e : askW tp wLeast a with
  | error f => rw [e] at h; cases h
  | ok b =>
    rw [e] at h
    cases h
    obtain ⟨k1, rfl⟩ := askW_ok e
    exact ⟨by show 5 < 6; omega, key wLeast (by decide) k1⟩
theorem tkQ_le {k i : Nat} {v : Int} {A : Int × Bool} {B : Int} (hv : mid v) (hi : i ≤ 900000) (hB : 1000000 ≤ B) (h1 : -B ≤ A.1) (h2 : A.1 ≤ B) : -(B + 1000000) ≤ tkQ k v i A ∧ tkQ k v i A ≤ B + 1000000 := by
  unfold mid at hv
  unfold tkQ
  split
  · split <;> omega
  split
  · split <;> omega
  split
  · split <;> omega
  split
  · omega
  split
  · split <;> omega
  · split <;> omega
section AK_
variable (G : CX) (g : GX) (l : Launch) (d : Nat) (σ : AS)
set_option maxRecDepth 20000 in
set_option maxHeartbeats 2000000 in
theorem c_ask (T : Twn) (n : Nws) (hT : TN T n σ) (tp : List Nat) (hP0 : MTp tp σ) (hW : Wds σ) : MC G g l (d+11) mX6_ask [tM] σ (fun r t => aS σ t ∧ gI t 200 1 = nI 0 ∧ AskR T n (askP tp) r t) := by
  have hlen : tp.length ≤ 1600 := hP0.1.1
  have hhr := hT.2.1.1
  generalize hres : askP tp = res
  refine MC1 tX6_ask [34, 43, 48, 60, 73, 89] rfl okX6_ask rfl rfl rfl rfl (fun P hP => ?_)
  have finE : ∀ (τ : AS) (f : Flt) (y : Int32) (z2 : Option AV), aS σ τ → gI τ 200 1 = nI 0 → PF tp f τ → res = .error f → P 60 [some tM, some (iv y), z2] [] τ := by
    intro τ f y z2 hS h1 hF hr
    have hne : ¬ gI (sI (sI τ 200 7 (gI τ 200 5)) 200 8 (gI (sI τ 200 7 (gI τ 200 5)) 200 6)) 200 5 = nI 0 := pf_bad hF
    have S1 : mS [7, 8] [] τ (sI (sI τ 200 7 (gI τ 200 5)) 200 8 (gI (sI τ 200 7 (gI τ 200 5)) 200 6)) := (mS.rf.f rfl).f rfl
    refine hP _ _ _ _ (And.intro (fun q => absurd q hne) (fun _ => ?_))
    rw [hr]
    exact ⟨hS.tr (S1.mono rfl rfl), by rw [S1.i 200 1 rfl rfl]; exact h1, hF.2.1, hF.2.2.2.1, rfl⟩
  -- the answer grows
  have grow : ∀ (k : Nat) (cs : List Nat) (b : Bool), k < 6 → res = .ok (k, cs) → cs.length ≤ 1600 → tyq cs [] = some [b] → ∀ (m i : Nat) (A : Int × Bool) (τ : AS), i + m = Nhr n + 201 → Nhr n ≤ i → aS σ τ → gI τ 200 1 = nI 0 → gI τ 200 7 = nI 0 → gI τ 200 8 = - nI 1 → gI τ 200 89 = nI cs.length → (∀ (j c : Nat), cs[j]? = some c → gI τ 264 j = nI c) → gL τ 200 96 = zL A.1 → gI τ 200 97 = bI A.2 → -(1000000 * ((i - Nhr n : Nat) : Int) + 1000000) ≤ A.1 → A.1 ≤ 1000000 * ((i - Nhr n : Nat) : Int) + 1000000 → (ansL (evF T n cs) k m i A).1 = ansF T n k cs → P 89 [some tM, some (iv (nI k)), some (iv (nI i))] [] τ := by
    intro k cs b hk hr hl hty m
    induction m with
    | zero =>
      intro i A τ hm hi hS g1 g7 g8 g89 gc g96 g97 b1 b2 hans
      have hT2 := hT.keep hS rfl rfl
      have h0 : gI τ 230 0 = nI (Nhr n) := hT2.2.2.2.1
      have hgt : gI τ 230 0 + nI 200 < nI i := by rw [h0, nI_add, nI_ltI (by omega) (by omega)]; omega
      refine hP _ _ _ _ (And.intro (vin 0 31 rfl rfl) (And.intro (fun _ => ?_) (fun q => absurd hgt q)))
      rw [hr]
      refine ⟨hS, g1, g7, g8, ?_⟩
      show some (Sum.inr (Sum.inl (gL τ 200 96))) = _
      rw [g96, ← hans]
      rfl
    | succ m ih =>
      intro i A τ hm hi hS g1 g7 g8 g89 gc g96 g97 b1 b2 hans
      have hT2 := hT.keep hS rfl rfl
      have h0 : gI τ 230 0 = nI (Nhr n) := hT2.2.2.2.1
      have hgt : ¬ gI τ 230 0 + nI 200 < nI i := by rw [h0, nI_add, nI_ltI (by omega) (by omega)]; omega
      refine hP _ _ _ _ (And.intro (vin 0 31 rfl rfl) (And.intro (fun q => absurd q hgt) (fun _ => ?_)))
      refine mcall (c_qTold G g l d τ T n hT2 cs b _ i rfl (by omega) g89 hl gc hty) (fun r s1 h9 => ?_)
      obtain ⟨⟨v, v1, v2, rfl⟩, S1⟩ := h9
      have hev : evF T n cs i = v := by
        unfold evF
        cases hq : evalQ (fun k => clipZ (ptQ k i)) (fun k z => clipZ (ofQ T n k z i)) cs [] with
        | nil => rw [hq] at v1; simp at v1
        | cons u r => rw [hq] at v1; simp at v1; exact v1
      have hAz : inZ A.1 := by
        have : (i - Nhr n : Nat) ≤ 201 := by omega
        constructor <;> omega
      refine mcall (c_qTakes G g l (d+9) s1 _ _ _ k i v A rfl rfl v2.1 rfl hk (by omega) hAz (by rw [(S1.1 200 96 (by simp) (fun _ => by simp)).2]; exact g96) (by rw [S1.i 200 97 rfl rfl]; exact g97)) (fun r s2 h9 => ?_)
      obtain ⟨rfl, S2, q1, q2⟩ := h9
      show P 89 [some tM, some (iv (nI k)), some (iv (nI i + nI 1))] [] s2
      rw [nI_add]
      have hB := tkQ_le (k := k) (i := i) (v := v) (A := A) (B := 1000000 * ((i - Nhr n : Nat) : Int) + 1000000) v2.1 (by omega) (by omega) b1 b2
      have hSi : ((i + 1 - Nhr n : Nat) : Int) = ((i - Nhr n : Nat) : Int) + 1 := by omega
      refine ih (i+1) (tkQ k v i A, false) s2 (by omega) (by omega) ((hS.tr (S1.mono rfl rfl)).tr (S2.mono rfl rfl)) (by rw [S2.i 200 1 rfl rfl, S1.i 200 1 rfl rfl]; exact g1) (by rw [S2.i 200 7 rfl rfl, S1.i 200 7 rfl rfl]; exact g7) (by rw [S2.i 200 8 rfl rfl, S1.i 200 8 rfl rfl]; exact g8) (by rw [S2.i 200 89 rfl rfl, S1.i 200 89 rfl rfl]; exact g89) (fun j c hj => by rw [S2.ia 264 rfl rfl, S1.ia 264 rfl rfl]; exact gc j c hj) q1 q2 (by show _ ≤ tkQ k v i A; omega) (by show tkQ k v i A ≤ _; omega) ?_
      rw [← hans]
      show _ = (ansL (evF T n cs) k m (i+1) (tkQ k (evF T n cs i) i A, false)).1
      rw [hev]
  have finO : ∀ (τ : AS) (k : Nat) (cs : List Nat) (b : Bool) (a : Nat) (z2 : Option AV), k < 6 → res = .ok (k, cs) → cs.length ≤ 1600 → tyq cs [] = some [b] → aS σ τ → gI τ 200 1 = nI 0 → PO tp a a τ → gI τ 200 89 = nI cs.length → (∀ (j c : Nat), cs[j]? = some c → gI τ 264 j = nI c) → P 60 [some tM, some (iv (nI k)), z2] [] τ := by
    intro τ k cs b a z2 hk hr hl hty hS g1 hO g89 gc
    have h5 : gI (sI (sI τ 200 7 (gI τ 200 5)) 200 8 (gI (sI τ 200 7 (gI τ 200 5)) 200 6)) 200 5 = nI 0 := hO.2.1
    have S1 : mS [7, 8] [] τ (sI (sI τ 200 7 (gI τ 200 5)) 200 8 (gI (sI τ 200 7 (gI τ 200 5)) 200 6)) := (mS.rf.f rfl).f rfl
    have e7 : gI (sI (sI τ 200 7 (gI τ 200 5)) 200 8 (gI (sI τ 200 7 (gI τ 200 5)) 200 6)) 200 7 = nI 0 := hO.2.1
    have e8 : gI (sI (sI τ 200 7 (gI τ 200 5)) 200 8 (gI (sI τ 200 7 (gI τ 200 5)) 200 6)) 200 8 = - nI 1 := by obtain ⟨-, -, -, -, -, -, e, -, -, -, p10⟩ := hO; exact p10
    refine hP _ _ _ _ (And.intro (fun _ => ?_) (fun q => absurd h5 q))
    show P 73 [some tM, some (iv (nI k)), z2] [] (sI (sI τ 200 7 (gI τ 200 5)) 200 8 (gI (sI τ 200 7 (gI τ 200 5)) 200 6))
    generalize (sI (sI τ 200 7 (gI τ 200 5)) 200 8 (gI (sI τ 200 7 (gI τ 200 5)) 200 6)) = τ2 at *
    have hS2 := hS.tr (S1.mono (fs' := [1, 2, 3, 4, 5, 6, 7, 8, 43, 89, 91, 92, 93, 95, 96, 97]) (ids' := [228, 229, 264, 265, 266]) rfl rfl)
    have go : ∀ (v : Int64), v = zL (if k < 2 then -1 else 0) → P 89 [some tM, some (iv (nI k)), some (iv (gI τ2 230 0))] [] (sI (sL τ2 200 96 v) 200 97 (nI 1)) := by
      intro v hv
      have hT2 := hT.keep hS2 rfl rfl
      rw [show gI τ2 230 0 = nI (Nhr n) from hT2.2.2.2.1]
      have S3 : mS [96, 97] [] τ2 (sI (sL τ2 200 96 v) 200 97 (nI 1)) := (mS.rf.fl rfl).f rfl
      refine grow k cs b hk hr hl hty 201 (Nhr n) (if k < 2 then -1 else 0, true) _ (by omega) (Nat.le_refl _) (hS2.tr (S3.mono rfl rfl)) (by rw [S3.i 200 1 rfl rfl, S1.i 200 1 rfl rfl]; exact g1) (by rw [S3.i 200 7 rfl rfl]; exact e7) (by rw [S3.i 200 8 rfl rfl]; exact e8) (by rw [S3.i 200 89 rfl rfl, S1.i 200 89 rfl rfl]; exact g89) (fun j c hj => by rw [S3.ia 264 rfl rfl, S1.ia 264 rfl rfl]; exact gc j c hj) ?_ ?_ ?_ ?_ rfl
      · show gL (sL τ2 200 96 v) 200 96 = _
        rw [gL_sL, if_pos ⟨rfl, rfl⟩, hv]
      · rw [gI_sI, if_pos ⟨rfl, rfl⟩]; rfl
      · rw [Nat.sub_self]; show _ ≤ (if k < 2 then (-1 : Int) else 0); split <;> simp
      · rw [Nat.sub_self]; show (if k < 2 then (-1 : Int) else 0) ≤ _; split <;> simp
    by_cases hk2 : k < 2
    · refine hP _ _ _ _ (And.intro (fun q => absurd (show nI 2 ≤ nI k from q) (nI_ge (by omega) (by omega))) (fun _ => ?_))
      exact ⟨nar1, vin 0 31 rfl rfl, go _ (by rw [if_pos hk2]; rfl)⟩
    · refine hP _ _ _ _ (And.intro (fun _ => ?_) (fun q => absurd (show nI 2 ≤ nI k from nI_le (by omega) (by omega)) q))
      exact ⟨nar1, vin 0 31 rfl rfl, go _ (by rw [if_neg hk2]; rfl)⟩
  have at48 : ∀ (τ : AS) (k a : Nat) (R : PR (List Nat)) (b : Bool) (z2 : Option AV), k < 6 → aS σ τ → gI τ 200 1 = nI 0 → FaR tp [] [] 0 R τ → (∀ f, R = .error f → res = .error f) → (∀ x, R = .ok x → res = if tp.length ≤ x.2 then .ok (k, x.1) else .error (1, x.2)) → (∀ x, R = .ok x → tyq x.1 [] = some [b] ∧ x.2 ≤ tp.length ∧ x.1.length ≤ 1600) → P 48 [some tM, some (iv (nI k)), z2] [] τ := by
    intro τ k a R b z2 hk hS g1 hR r1 r2 r3
    cases R with
    | error f =>
      have F : PF tp f τ := hR
      exact hP _ _ _ _ (And.intro (fun _ => finE τ f _ _ hS g1 F (r1 f rfl)) (fun q => absurd q (pf_bad F)))
    | ok x =>
      obtain ⟨X, M⟩ := hR
      have r2 := r2 x rfl
      obtain ⟨r3, r4, r5⟩ := r3 x rfl
      refine hP _ _ _ _ (And.intro (fun q => absurd (PE.bad0 X) q) (fun _ => ?_))
      obtain ⟨a9, O9⟩ := X
      refine mcall (c_look G g l (d+9) τ tp x.2 a9 O9) (fun r s1 h9 => ?_)
      obtain ⟨rfl, S1, O1⟩ := h9
      have Q1 := hS.tr (S1.mono (fs' := [1, 2, 3, 4, 5, 6, 7, 8, 43, 89, 91, 92, 93, 95, 96, 97]) (ids' := [228, 229, 264, 265, 266]) rfl rfl)
      have g2 : gI s1 200 1 = nI 0 := by rw [S1.i 200 1 rfl rfl]; exact g1
      by_cases hla : tp.length ≤ x.2
      · refine And.intro (fun _ => ?_) (fun q => absurd ((byI_none O1.1.1 x.2).mpr hla) q)
        rw [if_pos hla] at r2
        exact finO s1 k x.1 b x.2 _ hk r2 r5 r3 Q1 g2 O1 (by rw [S1.i 200 89 rfl rfl]; exact M.1) (fun j c hj => by rw [S1.ia 264 rfl rfl]; exact M.2.2.2.1 j c hj)
      · refine And.intro (fun q => absurd ((byI_none O1.1.1 x.2).mp q) hla) (fun _ => ?_)
        rw [if_neg hla] at r2
        refine mcall (c_fail0 G g l (d+9) s1 tp O1.1 O1.2.1 _ _ 1 x.2 rfl O1.2.2.1 (by omega) (by omega) (by omega)) (fun r s2 h9 => ?_)
        obtain ⟨rfl, S2, F2⟩ := h9
        exact finE s2 (1, x.2) _ _ (Q1.tr (S2.mono rfl rfl)) (by rw [S2.i 200 1 rfl rfl]; exact g2) F2 r2
  refine hP _ _ _ _ ?_
  show callP G (true, g) l (d+11) mX6_qKind [tM] (sI (sI (sI (sI (sI (sI (sI (sI (sI (sI σ 200 3 (gI σ 200 1)) 200 1 (nI 0)) 200 2 (nI 0)) 200 4 (- nI 1)) 200 5 (nI 0)) 200 6 (- nI 1)) 200 89 (nI 0)) 200 91 (nI 0)) 200 92 (nI 0)) 200 93 (nI 0)) _ _
  have Z : mS [1, 2, 3, 4, 5, 6, 89, 91, 92, 93] [] σ (sI (sI (sI (sI (sI (sI (sI (sI (sI (sI σ 200 3 (gI σ 200 1)) 200 1 (nI 0)) 200 2 (nI 0)) 200 4 (- nI 1)) 200 5 (nI 0)) 200 6 (- nI 1)) 200 89 (nI 0)) 200 91 (nI 0)) 200 92 (nI 0)) 200 93 (nI 0)) := ((((((((((mS.rf.f rfl).f rfl).f rfl).f rfl).f rfl).f rfl).f rfl).f rfl).f rfl).f rfl)
  have z3 : gI (sI (sI (sI (sI (sI (sI (sI (sI (sI (sI σ 200 3 (gI σ 200 1)) 200 1 (nI 0)) 200 2 (nI 0)) 200 4 (- nI 1)) 200 5 (nI 0)) 200 6 (- nI 1)) 200 89 (nI 0)) 200 91 (nI 0)) 200 92 (nI 0)) 200 93 (nI 0)) 200 3 = nI tp.length := hP0.2
  have z1 : gI (sI (sI (sI (sI (sI (sI (sI (sI (sI (sI σ 200 3 (gI σ 200 1)) 200 1 (nI 0)) 200 2 (nI 0)) 200 4 (- nI 1)) 200 5 (nI 0)) 200 6 (- nI 1)) 200 89 (nI 0)) 200 91 (nI 0)) 200 92 (nI 0)) 200 93 (nI 0)) 200 1 = nI 0 := rfl
  have z2 : gI (sI (sI (sI (sI (sI (sI (sI (sI (sI (sI σ 200 3 (gI σ 200 1)) 200 1 (nI 0)) 200 2 (nI 0)) 200 4 (- nI 1)) 200 5 (nI 0)) 200 6 (- nI 1)) 200 89 (nI 0)) 200 91 (nI 0)) 200 92 (nI 0)) 200 93 (nI 0)) 200 2 = nI 0 := rfl
  have z4 : gI (sI (sI (sI (sI (sI (sI (sI (sI (sI (sI σ 200 3 (gI σ 200 1)) 200 1 (nI 0)) 200 2 (nI 0)) 200 4 (- nI 1)) 200 5 (nI 0)) 200 6 (- nI 1)) 200 89 (nI 0)) 200 91 (nI 0)) 200 92 (nI 0)) 200 93 (nI 0)) 200 4 = - nI 1 := rfl
  have z5 : gI (sI (sI (sI (sI (sI (sI (sI (sI (sI (sI σ 200 3 (gI σ 200 1)) 200 1 (nI 0)) 200 2 (nI 0)) 200 4 (- nI 1)) 200 5 (nI 0)) 200 6 (- nI 1)) 200 89 (nI 0)) 200 91 (nI 0)) 200 92 (nI 0)) 200 93 (nI 0)) 200 5 = nI 0 := rfl
  have z6 : gI (sI (sI (sI (sI (sI (sI (sI (sI (sI (sI σ 200 3 (gI σ 200 1)) 200 1 (nI 0)) 200 2 (nI 0)) 200 4 (- nI 1)) 200 5 (nI 0)) 200 6 (- nI 1)) 200 89 (nI 0)) 200 91 (nI 0)) 200 92 (nI 0)) 200 93 (nI 0)) 200 6 = - nI 1 := rfl
  have z89 : gI (sI (sI (sI (sI (sI (sI (sI (sI (sI (sI σ 200 3 (gI σ 200 1)) 200 1 (nI 0)) 200 2 (nI 0)) 200 4 (- nI 1)) 200 5 (nI 0)) 200 6 (- nI 1)) 200 89 (nI 0)) 200 91 (nI 0)) 200 92 (nI 0)) 200 93 (nI 0)) 200 89 = nI 0 := rfl
  have z91 : gI (sI (sI (sI (sI (sI (sI (sI (sI (sI (sI σ 200 3 (gI σ 200 1)) 200 1 (nI 0)) 200 2 (nI 0)) 200 4 (- nI 1)) 200 5 (nI 0)) 200 6 (- nI 1)) 200 89 (nI 0)) 200 91 (nI 0)) 200 92 (nI 0)) 200 93 (nI 0)) 200 91 = nI 0 := rfl
  have z92 : gI (sI (sI (sI (sI (sI (sI (sI (sI (sI (sI σ 200 3 (gI σ 200 1)) 200 1 (nI 0)) 200 2 (nI 0)) 200 4 (- nI 1)) 200 5 (nI 0)) 200 6 (- nI 1)) 200 89 (nI 0)) 200 91 (nI 0)) 200 92 (nI 0)) 200 93 (nI 0)) 200 92 = nI 0 := rfl
  generalize (sI (sI (sI (sI (sI (sI (sI (sI (sI (sI σ 200 3 (gI σ 200 1)) 200 1 (nI 0)) 200 2 (nI 0)) 200 4 (- nI 1)) 200 5 (nI 0)) 200 6 (- nI 1)) 200 89 (nI 0)) 200 91 (nI 0)) 200 92 (nI 0)) 200 93 (nI 0)) = s0 at *
  have Q0 : aS σ s0 := Z.mono rfl rfl
  have hsk : skp tp 0 ≤ tp.length := skp_le (Nat.zero_le _)
  have B : PB tp s0 := ⟨hP0.1.keep Z rfl, z3⟩
  have hpr : prLD tp (skp tp 0) = false := by
    rcases Nat.eq_or_lt_of_le (skp_ge tp 0) with q | q
    · rw [← q]; rfl
    · exact skp_pr q
  have X : PX tp (.ok (skp tp 0)) s0 := ⟨0, B, z5, z2, Nat.zero_le _, hsk, rfl, 0, z4, Nat.zero_le _, by rw [hpr]; exact ⟨fun e => by omega, fun e => by cases e⟩, z6⟩
  have M : MFq [] [] 0 s0 := ⟨z89, z91, z92, fun i v e => by simp at e, fun i v e => by simp at e, fun v hv => by simp at hv, by omega, by show 0 + 0 ≤ 1600; omega⟩
  refine mcall (c_qKind G g l (d+5) s0 tp (skp tp 0) X (hW.keep Z rfl)) (fun r s1 h9 => ?_)
  obtain ⟨S1, X1, v, rfl, V⟩ := h9
  have Q1 : aS σ s1 := Q0.tr (S1.mono rfl rfl)
  have g1 : gI s1 200 1 = nI 0 := by rw [S1.i 200 1 rfl rfl]; exact z1
  have M1 := M.keep S1 rfl
  show P 34 [some tM, some (iv v), none] [] s1
  cases hk : kindP tp (skp tp 0) with
  | error f =>
    rw [hk] at X1
    have F1 : PF tp f s1 := X1
    have hr : res = .error f := by rw [← hres]; unfold askP; rw [hk]
    have a48 : P 48 [some tM, some (iv v), none] [] s1 := hP _ _ _ _ (And.intro (fun _ => finE s1 f _ _ Q1 g1 F1 hr) (fun q => absurd q (pf_bad F1)))
    have a43 : P 43 [some tM, some (iv v), none] [] s1 := hP _ _ _ _ (And.intro (fun _ => a48) (fun q => absurd q (pf_bad F1)))
    exact hP _ _ _ _ (And.intro (fun _ => a43) (fun q => absurd q (pf_bad F1)))
  | ok z =>
    rw [hk] at X1
    have X1 : PX tp (.ok z.2) s1 := X1
    have hv := V z hk
    subst hv
    obtain ⟨k1, k2, k3⟩ := kindP_ok hk
    have hra : ∀ R, (if z.1 < 3 then testP tp 0 z.2 else sumP true tp 0 z.2) = R → res = match R with
        | .error f => .error f
        | .ok x => if tp.length ≤ x.2 then .ok (z.1, x.1) else .error (1, x.2) := by
      intro R hR
      rw [← hres]
      unfold askP
      rw [hk]
      simp only [hR]
    by_cases h3 : z.1 < 3
    · rw [if_pos h3] at hra
      refine hP _ _ _ _ (And.intro (fun q => absurd (PE.bad0 X1) q) (fun _ => And.intro (fun q => absurd (show nI 3 ≤ nI z.1 from q) (nI_ge (by omega) (by omega))) (fun _ => ?_)))
      refine mcall (c_qTest G g l (d+1) s1 tp [] 0 z.2 X1 M1 (by show 0 < z.2; omega) ((hW.keep Z rfl).keep S1 rfl)) (fun r s2 h9 => ?_)
      obtain ⟨rfl, S2, B2, R2⟩ := h9
      refine at48 s2 z.1 z.2 (testP tp 0 z.2) true _ k1 (Q1.tr (S2.mono rfl rfl)) (by rw [S2.i 200 1 rfl rfl]; exact g1) R2 (fun f hf => ?_) (fun x hx => ?_) (fun x hx => ?_)
      · exact hra _ hf
      · exact hra _ hx
      · obtain ⟨q1, q2, q3, q4⟩ := testP_good k3 hx
        exact ⟨q1 [], q3, by omega⟩
    · rw [if_neg h3] at hra
      have a43 : P 43 [some tM, some (iv (nI z.1)), none] [] s1 := by
        refine hP _ _ _ _ (And.intro (fun q => absurd (PE.bad0 X1) q) (fun _ => ?_))
        refine mcall (c_qSums G g l (d+3) s1 tp [] [] 0 z.2 X1 M1 (by show 0 + 0 < z.2; omega) (fun w hw => by cases hw) ((hW.keep Z rfl).keep S1 rfl)) (fun r s2 h9 => ?_)
        obtain ⟨rfl, S2, B2, R2⟩ := h9
        refine at48 s2 z.1 z.2 (sumP true tp 0 z.2) false _ k1 (Q1.tr (S2.1.mono rfl rfl)) (by rw [S2.1.i 200 1 rfl rfl]; exact g1) ?_ (fun f hf => ?_) (fun x hx => ?_) (fun x hx => ?_)
        · cases hs : sumP true tp 0 z.2 with
          | error f => rw [hs] at R2; exact R2.1
          | ok y => rw [hs] at R2; exact R2
        · exact hra _ hf
        · exact hra _ hx
        · obtain ⟨q1, q2, q3, q4⟩ := sumP_good k3 hx
          exact ⟨q1.t [], q3, by omega⟩
      exact hP _ _ _ _ (And.intro (fun q => absurd (PE.bad0 X1) q) (fun _ => And.intro (fun _ => a43) (fun q => absurd (show nI 3 ≤ nI z.1 from nI_le (by omega) (by omega)) q)))
end AK_
