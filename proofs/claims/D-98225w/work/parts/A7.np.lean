/-! THE TOWN THAT IS READ, in the reference's arrays (their first halves) -/
def MRS (rs : RS) (C : List Nat) (σ : AS) : Prop := RSOK rs ∧ MNm rs.2.2.1 σ ∧ gI σ 200 33 = nI rs.1 ∧ gI σ 200 32 = nI rs.2.1 ∧
  (∀ (k : Nat) (z : StR), rs.2.2.2.1[k]? = some z → gI σ 222 (5 * k) = nI z.1 ∧ gI σ 222 (5 * k + 1) = nI z.2.1 ∧ gI σ 222 (5 * k + 2) = nI z.2.2.1 ∧ gI σ 222 (5 * k + 3) = nI z.2.2.2.1 ∧ gI σ 222 (5 * k + 4) = nI z.2.2.2.2.1) ∧
  (∀ (k : Nat) (z : WkR), rs.2.2.2.2[k]? = some z → gI σ 223 (3 * k) = nI z.1 ∧ gI σ 223 (3 * k + 1) = nI z.2.1 ∧ gI σ 223 (3 * k + 2) = nI z.2.2) ∧
  (gI σ 200 35 = nI C.length ∧ C.length ≤ 1600 ∧ ∀ (i v : Nat), C[i]? = some v → gI σ 224 i = nI v) ∧
  (∀ (k : Nat) (z : StR), rs.2.2.2.1[k]? = some z → ∃ f, gI σ 226 k = nI f ∧ gI σ 227 k = nI (f + z.2.2.2.2.2.length) ∧ f + z.2.2.2.2.2.length ≤ C.length ∧ ∀ (j c : Nat), z.2.2.2.2.2[j]? = some c → C[f + j]? = some c)
/-- what reading may alter -/
def rS (σ t : AS) : Prop := mS [2, 4, 5, 6, 27, 32, 33, 35, 37, 38, 41] [220, 221, 222, 223, 224, 225, 226, 227] σ t ∧ (∀ k, 3 ≤ k → gI t 220 k = gI σ 220 k) ∧ (∀ k, 36 ≤ k → gL t 221 k = gL σ 221 k) ∧ (∀ k, 60 ≤ k → gI t 222 k = gI σ 222 k) ∧ (∀ k, 18 ≤ k → gI t 223 k = gI σ 223 k) ∧ (∀ k, 1600 ≤ k → gI t 224 k = gI σ 224 k) ∧ (∀ k, 12 ≤ k → gI t 226 k = gI σ 226 k) ∧ (∀ k, 12 ≤ k → gI t 227 k = gI σ 227 k)
theorem rS.rf {σ : AS} : rS σ σ := ⟨mS.rf, fun _ _ => rfl, fun _ _ => rfl, fun _ _ => rfl, fun _ _ => rfl, fun _ _ => rfl, fun _ _ => rfl, fun _ _ => rfl⟩
theorem rS.tr {σ s t : AS} (h1 : rS σ s) (h2 : rS s t) : rS σ t := by
  obtain ⟨a0, a1, a2, a3, a4, a5, a6, a7⟩ := h1
  obtain ⟨b0, b1, b2, b3, b4, b5, b6, b7⟩ := h2
  exact ⟨a0.tr b0, fun k hk => (b1 k hk).trans (a1 k hk), fun k hk => (b2 k hk).trans (a2 k hk), fun k hk => (b3 k hk).trans (a3 k hk), fun k hk => (b4 k hk).trans (a4 k hk), fun k hk => (b5 k hk).trans (a5 k hk), fun k hk => (b6 k hk).trans (a6 k hk), fun k hk => (b7 k hk).trans (a7 k hk)⟩
theorem rS.of {fs : List Nat} {σ t : AS} (h : mS fs [] σ t) (hf : fs.all (fun k => [2, 4, 5, 6, 27, 32, 33, 35, 37, 38, 41].contains k) = true) : rS σ t :=
  ⟨h.mono hf rfl, fun k _ => h.ia 220 rfl rfl k, fun k _ => h.la 221 rfl rfl k, fun k _ => h.ia 222 rfl rfl k, fun k _ => h.ia 223 rfl rfl k, fun k _ => h.ia 224 rfl rfl k, fun k _ => h.ia 226 rfl rfl k, fun k _ => h.ia 227 rfl rfl k⟩
theorem rS.ofY {σ t : AS} (h : ySt σ t) : rS σ t :=
  ⟨h.1.mono rfl rfl, fun k _ => h.1.ia 220 rfl rfl k, fun k _ => h.1.la 221 rfl rfl k, fun k _ => h.1.ia 222 rfl rfl k, fun k _ => h.1.ia 223 rfl rfl k, h.2, fun k _ => h.1.ia 226 rfl rfl k, fun k _ => h.1.ia 227 rfl rfl k⟩
theorem rS.i {σ s : AS} (h : rS σ s) {b k : Nat} {v : Int32} (hk : (b = 220 ∧ k < 3) ∨ (b = 222 ∧ k < 60) ∨ (b = 223 ∧ k < 18) ∨ (b = 226 ∧ k < 12) ∨ (b = 227 ∧ k < 12)) : rS σ (sI s b k v) := by
  obtain ⟨a0, a1, a2, a3, a4, a5, a6, a7⟩ := h
  have ne : ∀ c j, ¬ (c = b ∧ j = k) → gI (sI s b k v) c j = gI s c j := fun c j hq => by rw [gI_sI, if_neg hq]
  refine ⟨?_, fun j hj => (ne 220 j (by omega)).trans (a1 j hj), fun j hj => a2 j hj, fun j hj => (ne 222 j (by omega)).trans (a3 j hj), fun j hj => (ne 223 j (by omega)).trans (a4 j hj), fun j hj => (ne 224 j (by omega)).trans (a5 j hj), fun j hj => (ne 226 j (by omega)).trans (a6 j hj), fun j hj => (ne 227 j (by omega)).trans (a7 j hj)⟩
  rcases hk with ⟨rfl, -⟩ | ⟨rfl, -⟩ | ⟨rfl, -⟩ | ⟨rfl, -⟩ | ⟨rfl, -⟩
  · exact a0.a rfl
  · exact a0.a rfl
  · exact a0.a rfl
  · exact a0.a rfl
  · exact a0.a rfl
theorem rS.l {σ s : AS} (h : rS σ s) {k : Nat} {v : Int64} (hk : k < 36) : rS σ (sL s 221 k v) := by
  obtain ⟨a0, a1, a2, a3, a4, a5, a6, a7⟩ := h
  exact ⟨a0.al rfl, a1, fun j hj => by rw [gL_sL, if_neg (by omega)]; exact a2 j hj, a3, a4, a5, a6, a7⟩
theorem rS.f {σ s : AS} (h : rS σ s) {k : Nat} {v : Int32} (hk : [2, 4, 5, 6, 27, 32, 33, 35, 37, 38, 41].contains k = true) : rS σ (sI s 200 k v) :=
  h.tr (rS.of (fs := [2, 4, 5, 6, 27, 32, 33, 35, 37, 38, 41]) (mS.rf.f hk) rfl)
theorem Wds.rd {σ t : AS} (h : Wds σ) (hS : rS σ t) : Wds t := h.keep hS.1 rfl
theorem MNm.add {N N' : Nms} {σ t : AS} {k v : Nat} (h : MNm N σ) (hk : k < 3) (hN : nmK N' k = nmK N k ++ [v]) (hO : ∀ j, j < 3 → j ≠ k → nmK N' j = nmK N j) (hl : N'.1.length ≤ 9 ∧ N'.2.1.length ≤ 12 ∧ N'.2.2.length ≤ 6) (hv : v < 387420489) (e1 : gI t 220 k = nI ((nmK N k).length + 1)) (e2 : ∀ j, j < 3 → j ≠ k → gI t 220 j = gI σ 220 j) (e3 : gL t 221 (12 * k + (nmK N k).length) = lN v) (e4 : ∀ i, i ≠ 12 * k + (nmK N k).length → gL t 221 i = gL σ 221 i) : MNm N' t := by
  have c : ∀ j, j < 3 → gI t 220 j = nI (nmK N' j).length := by
    intro j hj
    by_cases e : j = k
    · subst e; rw [e1, hN]; simp
    · rw [e2 j hj e, (h.cnt hj).1, hO j hj e]
  have hl12 : ∀ j, j < 3 → (nmK N' j).length ≤ 12 := by
    intro j hj
    have : j = 0 ∨ j = 1 ∨ j = 2 := by omega
    rcases this with rfl | rfl | rfl
    · show N'.1.length ≤ 12; omega
    · exact hl.2.1
    · show N'.2.2.length ≤ 12; omega
  refine ⟨hl, ⟨c 0 (by omega), c 1 (by omega), c 2 (by omega)⟩, fun j hj i u hu => ?_⟩
  by_cases e : j = k
  · subst e
    rw [hN] at hu
    rcases Nat.lt_trichotomy i (nmK N j).length with q | q | q
    · rw [List.getElem?_append_left q] at hu
      rw [e4 _ (by omega)]
      exact h.2.2 j hj i u hu
    · subst q
      rw [List.getElem?_append_right (Nat.le_refl _), Nat.sub_self] at hu
      cases hu
      exact ⟨e3, hv⟩
    · rw [List.getElem?_eq_none (by simp; omega)] at hu
      cases hu
  · rw [hO j hj e] at hu
    have hi : i < (nmK N j).length := (List.getElem?_eq_some_iff.mp hu).1
    have h1 := hl12 j hj
    have h2 := hl12 k hk
    rw [hO j hj e] at h1
    rw [hN] at h2
    simp at h2
    rw [e4 _ (by omega)]
    exact h.2.2 j hj i u hu
theorem nI_ix (a b c : Nat) : nI a * nI b + nI c = nI (a * b + c) := by rw [pk_mul, nI_add]
/-- the streets, walkers and codes stay -/
theorem MRS.keep {rs : RS} {C : List Nat} {σ t : AS} (h : MRS rs C σ) (hS : mS [2, 4, 5, 6, 27] [] σ t) : MRS rs C t := by
  obtain ⟨h0, h1, h2, h3, h4, h5, ⟨h6, h6a, h6b⟩, h7⟩ := h
  refine ⟨h0, h1.keep hS rfl, by rw [hS.i 200 33 rfl rfl]; exact h2, by rw [hS.i 200 32 rfl rfl]; exact h3, fun k z hz => ?_, fun k z hz => ?_, ⟨by rw [hS.i 200 35 rfl rfl]; exact h6, h6a, fun i v hv => by rw [hS.ia 224 rfl rfl]; exact h6b i v hv⟩, fun k z hz => ?_⟩
  · simp only [hS.ia 222 rfl rfl]; exact h4 k z hz
  · simp only [hS.ia 223 rfl rfl]; exact h5 k z hz
  · simp only [hS.ia 226 rfl rfl, hS.ia 227 rfl rfl]; exact h7 k z hz
section NP_
variable (G : CX) (g : GX) (l : Launch) (d : Nat) (σ : AS)
theorem c_newPlace (tp : List Nat) (rs : RS) (C : List Nat) (a p : Nat) (hX : PX tp (.ok a) σ) (hW : Wds σ) (hR : MRS rs C σ) (x : Int32) (hx : x = nI p) (hp : p ≤ 1600) :
    MC G g l (d+6) mX6_newPlace [tM, iv x] σ (fun r t => r = none ∧ rS σ t ∧ (match plP tp rs.2.2.1 a p with
      | .ok z => PX tp (.ok z.2) t ∧ MRS (addP rs z.1) C t
      | .error f => PF tp f t)) := by
  subst hx
  have hal : a ≤ 1600 := by obtain ⟨a', h1⟩ := hX; have := h1.2.2.2.2.1; have := h1.1.len; omega
  refine MC0 tX6_newPlace rfl okX6_newPlace rfl rfl rfl rfl (fun P => ?_)
  refine mcall (c_isFull G g l (d+3) σ tp (.ok a) hX rs.2.2.1 hR.2.1 _ _ _ 0 9 p rfl rfl rfl (by omega) (by omega) hp) (fun r s1 h8 => ?_)
  obtain ⟨S1, ⟨t1, rfl, F1⟩ | ⟨t1, rfl, rfl⟩⟩ := h8
  · refine And.intro (fun q => absurd q (by decide)) (fun _ => ⟨rfl, rS.of S1 rfl, ?_⟩)
    have t1 : rs.2.2.1.1.length = 9 := t1
    unfold plP
    rw [if_pos t1]
    exact F1
  · have t1 : ¬ rs.2.2.1.1.length = 9 := t1
    have e0 : plP tp rs.2.2.1 a p = newF tp rs.2.2.1 a := if_neg t1
    rw [e0]
    refine And.intro (fun _ => ?_) (fun q => absurd rfl q)
    refine mcall (c_newName G g l d s1 tp (.ok a) hX hW rs.2.2.1 hR.2.1 (fun b hb => by cases hb; exact hal)) (fun r s2 h8 => ?_)
    obtain ⟨S2, X2, v, rfl, V2⟩ := h8
    have X2 : PX tp (posOf (newF tp rs.2.2.1 a)) s2 := X2
    cases hn : newF tp rs.2.2.1 a with
    | error f =>
      rw [hn] at X2
      exact And.intro (fun q => absurd q (pf_bad X2)) (fun _ => ⟨rfl, rS.of S2 rfl, X2⟩)
    | ok z =>
      rw [hn] at X2
      have hv := V2 a z rfl hn
      have R2 := hR.keep S2
      have c0 := (R2.2.1.cnt (k := 0) (by omega)).1
      have c0 : gI s2 220 0 = nI rs.2.2.1.1.length := c0
      have hz := namF_ok (newF_ok hn).1
      have hlen := R2.2.1.1.1
      refine And.intro (fun _ => And.intro (vin 0 6 rfl rfl) (And.intro (show vp_in (gI s2 220 0) 72 from by rw [c0]; exact vinN (by omega) (by decide)) (And.intro (vin 0 6 rfl rfl) (And.intro (vin 0 6 rfl rfl) ?_)))) (fun q => absurd (PE.bad0 X2) q)
      have ec : (gI s2 220 0).toNatClampNeg = rs.2.2.1.1.length := by rw [c0, clN (by omega)]
      show none = none ∧ rS s1 (sI (sL s2 221 (gI s2 220 0).toNatClampNeg v) 220 0 (gI s2 220 0 + nI 1)) ∧ PX tp (.ok z.2) (sI (sL s2 221 (gI s2 220 0).toNatClampNeg v) 220 0 (gI s2 220 0 + nI 1)) ∧ MRS (addP rs z.1) C (sI (sL s2 221 (gI s2 220 0).toNatClampNeg v) 220 0 (gI s2 220 0 + nI 1))
      rw [ec]
      have hS9 : mS [] [220, 221] s2 (sI (sL s2 221 rs.2.2.1.1.length v) 220 0 (gI s2 220 0 + nI 1)) := (mS.rf.al rfl).a rfl
      have X3 := PX.keep (S := .ok z.2) X2 hS9 rfl
      refine ⟨rfl, (((rS.of S2 rfl).l (by omega)).i (by omega)), X3, ?_⟩
      obtain ⟨h0, h1, h2, h3, h4, h5, ⟨h6, h6a, h6b⟩, h7⟩ := R2
      have hok : RSOK (addP rs z.1) := by
        have hn9 := h0.n
        obtain ⟨r1, r2, ⟨r3, r4, r5⟩, r6, r7, r8, r9, r10⟩ := h0
        have hl9 : (rs.2.2.1.1 ++ [z.1]).length = rs.2.2.1.1.length + 1 := by simp
        exact ⟨r1, r2, ⟨by show (rs.2.2.1.1 ++ [z.1]).length ≤ 9; omega, r4, r5⟩, r6, r7, fun u hu => (r8 u hu).mono (by show _ ≤ (rs.2.2.1.1 ++ [z.1]).length; omega), fun u hu => (r9 u hu).mono (by show _ ≤ (rs.2.2.1.1 ++ [z.1]).length; omega), nmOK (mem_snoc hn9.1 hz.2.2) hn9.2.1 hn9.2.2⟩
      refine ⟨hok, h1.add (k := 0) (v := z.1) (by omega) rfl (fun j hj hj0 => ?_) hok.2.2.1 hz.2.2.1 ?_ (fun j hj hj0 => ?_) ?_ (fun i hi => ?_), by rw [hS9.i 200 33 rfl rfl]; exact h2, by rw [hS9.i 200 32 rfl rfl]; exact h3, fun k u hu => ?_, fun k u hu => ?_, ⟨by rw [hS9.i 200 35 rfl rfl]; exact h6, h6a, fun i u hu => by rw [hS9.ia 224 rfl rfl]; exact h6b i u hu⟩, fun k u hu => ?_⟩
      · have : j = 1 ∨ j = 2 := by omega
        rcases this with rfl | rfl <;> rfl
      · rw [gI_sI, if_pos ⟨rfl, rfl⟩, c0, nI_add]; rfl
      · rw [gI_sI, if_neg (by omega)]; rfl
      · show gL (sL s2 221 rs.2.2.1.1.length v) 221 (12 * 0 + rs.2.2.1.1.length) = _
        rw [gL_sL, if_pos ⟨rfl, by omega⟩, hv]
      · show gL (sL s2 221 rs.2.2.1.1.length v) 221 i = _
        rw [gL_sL, if_neg (fun q => hi (by rw [q.2]; show _ = 12 * 0 + rs.2.2.1.1.length; omega))]
      · simp only [hS9.ia 222 rfl rfl]; exact h4 k u hu
      · simp only [hS9.ia 223 rfl rfl]; exact h5 k u hu
      · simp only [hS9.ia 226 rfl rfl, hS9.ia 227 rfl rfl]; exact h7 k u hu
end NP_
