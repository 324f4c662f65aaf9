/-! THE YARD IN MEMORY (q) -/
def MFq (F C : List Nat) (o : Nat) (σ : AS) : Prop := gI σ 200 89 = nI C.length ∧ gI σ 200 91 = nI F.length ∧ gI σ 200 92 = nI o ∧ (∀ i v, C[i]? = some v → gI σ 264 i = nI v) ∧ (∀ i v, F.reverse[i]? = some v → gI σ 265 i = nI v) ∧ (∀ v ∈ F, v ≤ 100) ∧ o ≤ 6 ∧ C.length + F.length ≤ 1600
def MYq (V W C : List Nat) (o : Nat) (σ : AS) : Prop := MFq (W ++ V) C o σ ∧ gI σ 200 93 = nI V.length
def ySq (σ t : AS) : Prop := mS [2, 4, 5, 6, 89, 91, 92, 93] [264, 265] σ t ∧ ∀ k, 1600 ≤ k → gI t 264 k = gI σ 264 k
theorem ySq.rf {σ : AS} : ySq σ σ := ⟨mS.rf, fun _ _ => rfl⟩
theorem ySq.tr {σ s t : AS} (h1 : ySq σ s) (h2 : ySq s t) : ySq σ t := ⟨h1.1.tr h2.1, fun k hk => (h2.2 k hk).trans (h1.2 k hk)⟩
theorem ySq.of {fs : List Nat} {σ t : AS} (h : mS fs [] σ t) (hf : fs.all (fun k => [2, 4, 5, 6, 89, 91, 92, 93].contains k) = true) : ySq σ t := ⟨h.mono hf rfl, fun k _ => h.ia 264 rfl rfl k⟩
theorem ySq.ofW {fs : List Nat} {σ t : AS} (h : mS fs [265] σ t) (hf : fs.all (fun k => [2, 4, 5, 6, 89, 91, 92, 93].contains k) = true) : ySq σ t := ⟨h.mono hf rfl, fun k _ => h.ia 264 rfl rfl k⟩
theorem ySq.ofA {fs : List Nat} {σ t : AS} (h : mS fs [264] σ t) (hf : fs.all (fun k => [2, 4, 5, 6, 89, 91, 92, 93].contains k) = true) (h2 : ∀ k, 1600 ≤ k → gI t 264 k = gI σ 264 k) : ySq σ t := ⟨h.mono hf rfl, h2⟩
theorem MFq.keep {fs F C : List Nat} {o : Nat} {σ t : AS} (h : MFq F C o σ) (hS : mS fs [] σ t) (hf : (fs.contains 89 || fs.contains 91 || fs.contains 92) = false) : MFq F C o t := by
  simp only [Bool.or_eq_false_iff] at hf
  obtain ⟨⟨k1, k2⟩, k3⟩ := hf
  obtain ⟨h1, h2, h3, h4, h5, h6⟩ := h
  exact ⟨by rw [hS.i 200 89 rfl (by rw [k1]; rfl)]; exact h1, by rw [hS.i 200 91 rfl (by rw [k2]; rfl)]; exact h2, by rw [hS.i 200 92 rfl (by rw [k3]; rfl)]; exact h3, fun i v e => by rw [hS.ia 264 rfl rfl]; exact h4 i v e, fun i v e => by rw [hS.ia 265 rfl rfl]; exact h5 i v e, h6⟩
theorem MYq.keep {fs V W C : List Nat} {o : Nat} {σ t : AS} (h : MYq V W C o σ) (hS : mS fs [] σ t) (hf : (fs.contains 89 || fs.contains 91 || fs.contains 92) = false) (hf2 : fs.contains 93 = false) : MYq V W C o t :=
  ⟨h.1.keep hS hf, by rw [hS.i 200 93 rfl (by rw [hf2]; rfl)]; exact h.2⟩
/-- a code more -/
theorem MFq.code {F C : List Nat} {o v : Nat} {σ t : AS} (h : MFq F C o σ) (hb : C.length + F.length < 1600) (hS : mS [89] [264] σ t) (e1 : gI t 200 89 = nI (C.length + 1)) (e2 : gI t 264 C.length = nI v) (e3 : ∀ k, k ≠ C.length → gI t 264 k = gI σ 264 k) : MFq F (C ++ [v]) o t := by
  obtain ⟨h1, h2, h3, h4, h5, h6, h7, h8⟩ := h
  have hl : (C ++ [v]).length = C.length + 1 := by simp
  refine ⟨by rw [hl]; exact e1, by rw [hS.i 200 91 rfl rfl]; exact h2, by rw [hS.i 200 92 rfl rfl]; exact h3, fun i u e => ?_, fun i u e => by rw [hS.ia 265 rfl rfl]; exact h5 i u e, h6, h7, by rw [hl]; omega⟩
  rcases Nat.lt_trichotomy i C.length with q | q | q
  · rw [List.getElem?_append_left q] at e
    rw [e3 i (by omega)]
    exact h4 i u e
  · subst q
    rw [List.getElem?_append_right (Nat.le_refl _), Nat.sub_self] at e
    cases e
    exact e2
  · rw [List.getElem?_eq_none (by rw [hl]; omega)] at e
    cases e
theorem MFq.top {F C : List Nat} {o v : Nat} {σ : AS} (h : MFq (v :: F) C o σ) : gI σ 265 F.length = nI v ∧ v ≤ 100 := by
  refine ⟨h.2.2.2.2.1 F.length v ?_, h.2.2.2.2.2.1 v List.mem_cons_self⟩
  rw [List.reverse_cons, List.getElem?_append_right (by simp)]
  simp
theorem MFq.pop {F C : List Nat} {o v : Nat} {σ : AS} {x : Int32} (h : MFq (v :: F) C o σ) (hx : x = nI F.length) : MFq F C o (sI σ 200 91 x) := by
  obtain ⟨h1, h2, h3, h4, h5, h6, h7, h8⟩ := h
  have hS : mS [91] [] σ (sI σ 200 91 x) := mS.rf.f rfl
  refine ⟨by rw [hS.i 200 89 rfl rfl]; exact h1, by rw [gI_sI, if_pos ⟨rfl, rfl⟩]; exact hx, by rw [hS.i 200 92 rfl rfl]; exact h3, fun i u e => by rw [hS.ia 264 rfl rfl]; exact h4 i u e, fun i u e => ?_, fun u hu => h6 u (List.mem_cons_of_mem _ hu), h7, by rw [List.length_cons] at h8; omega⟩
  rw [hS.ia 265 rfl rfl]
  refine h5 i u ?_
  rw [List.reverse_cons, List.getElem?_append_left (List.getElem?_eq_some_iff.mp e).1]
  exact e
theorem MFq.push {F C : List Nat} {o v : Nat} {σ : AS} {x y : Int32} {i : Nat} (h : MFq F C o σ) (hi : i = F.length) (hy : y = nI v) (hx : x = nI (F.length + 1)) (hv : v ≤ 100) (hb : C.length + F.length < 1600) : MFq (v :: F) C o (sI (sI σ 265 i y) 200 91 x) := by
  obtain ⟨h1, h2, h3, h4, h5, h6, h7, h8⟩ := h
  subst hi
  have hS : mS [91] [265] σ (sI (sI σ 265 F.length y) 200 91 x) := (mS.rf.a rfl).f rfl
  refine ⟨by rw [hS.i 200 89 rfl rfl]; exact h1, by rw [gI_sI, if_pos ⟨rfl, rfl⟩]; exact hx, by rw [hS.i 200 92 rfl rfl]; exact h3, fun i u e => by rw [hS.ia 264 rfl rfl]; exact h4 i u e, fun i u e => ?_, fun u hu => ?_, h7, by rw [List.length_cons]; omega⟩
  · rw [gI_sI, if_neg (by omega), gI_sI]
    rw [List.reverse_cons] at e
    rcases Nat.lt_trichotomy i F.length with q | q | q
    · rw [if_neg (by omega)]
      rw [List.getElem?_append_left (by rw [List.length_reverse]; exact q)] at e
      exact h5 i u e
    · subst q
      rw [if_pos ⟨rfl, rfl⟩, hy]
      rw [List.getElem?_append_right (by simp)] at e
      simp at e
      rw [e]
    · rw [List.getElem?_eq_none (by simp; omega)] at e
      cases e
  · rcases List.mem_cons.mp hu with e | e
    · omega
    · exact h6 u e
section Y1_q
variable (G : CX) (g : GX) (l : Launch) (d : Nat) (σ : AS)
theorem c_qCode (F C : List Nat) (o v : Nat) (h : MFq F C o σ) (x : Int32) (hx : x = nI v) (hb : C.length + F.length < 1600) :
    MC G g l (d+1) mX6_qCode [tM, iv x] σ (fun r t => r = none ∧ mS [89] [264] σ t ∧ (∀ k, 1600 ≤ k → gI t 264 k = gI σ 264 k) ∧ MFq F (C ++ [v]) o t) := by
  subst hx
  have h1 := h.1
  refine MC0 tX6_qCode rfl okX6_qCode rfl rfl rfl rfl (fun P => ?_)
  have ei : gI σ 200 89 = nI C.length := h1
  have ec : (gI σ 200 89).toNatClampNeg = C.length := by rw [ei, clN (by omega)]
  refine And.intro (show vp_in (gI σ 200 89) 1700 from by rw [ei]; exact vinN (by omega) (by decide)) ?_
  have hS : mS [89] [264] σ (sI (sI σ 264 C.length (nI v)) 200 89 (gI (sI σ 264 C.length (nI v)) 200 89 + nI 1)) := (mS.rf.a rfl).f rfl
  show none = none ∧ mS [89] [264] σ (sI (sI σ 264 (gI σ 200 89).toNatClampNeg (nI v)) 200 89 (gI (sI σ 264 (gI σ 200 89).toNatClampNeg (nI v)) 200 89 + nI 1)) ∧ (∀ k, 1600 ≤ k → gI (sI (sI σ 264 (gI σ 200 89).toNatClampNeg (nI v)) 200 89 (gI (sI σ 264 (gI σ 200 89).toNatClampNeg (nI v)) 200 89 + nI 1)) 264 k = gI σ 264 k) ∧ MFq F (C ++ [v]) o (sI (sI σ 264 (gI σ 200 89).toNatClampNeg (nI v)) 200 89 (gI (sI σ 264 (gI σ 200 89).toNatClampNeg (nI v)) 200 89 + nI 1))
  rw [ec]
  have e3 : ∀ k, k ≠ C.length → gI (sI (sI σ 264 C.length (nI v)) 200 89 (gI (sI σ 264 C.length (nI v)) 200 89 + nI 1)) 264 k = gI σ 264 k := by
    intro k hk
    rw [gI_sI, if_neg (by omega), gI_sI, if_neg (fun q => hk q.2)]
  refine ⟨rfl, hS, fun k hk => e3 k (by omega), h.code hb hS ?_ ?_ e3⟩
  · rw [gI_sI, if_pos ⟨rfl, rfl⟩, gI_sI, if_neg (by omega), h1, nI_add]
  · rw [gI_sI, if_neg (by omega), gI_sI, if_pos ⟨rfl, rfl⟩]
theorem c_qDrops (F C : List Nat) (o v : Nat) (h : MFq (v :: F) C o σ) :
    MC G g l (d+2) mX6_qDrops [tM] σ (fun r t => r = none ∧ mS [89, 91] [264] σ t ∧ (∀ k, 1600 ≤ k → gI t 264 k = gI σ 264 k) ∧ MFq F (C ++ [v]) o t) := by
  have h2 : gI σ 200 91 - nI 1 = nI F.length := by rw [h.2.1, List.length_cons, nI_s1 _ _ (by omega)]; rfl
  have h8 := h.2.2.2.2.2.2.2
  rw [List.length_cons] at h8
  have hp := h.pop h2
  refine MC0 tX6_qDrops rfl okX6_qDrops rfl rfl rfl rfl (fun P => ?_)
  refine And.intro (show vp_in (gI σ 200 91 - nI 1) 1700 from by rw [h2]; exact vinN (by omega) (by decide)) ?_
  refine mcall (c_qCode G g l d (sI σ 200 91 (gI σ 200 91 - nI 1)) F C o v hp _ ?_ (by omega)) (fun r s1 h9 => ?_)
  · show gI (sI σ 200 91 (gI σ 200 91 - nI 1)) 265 (gI σ 200 91 - nI 1).toNatClampNeg = nI v
    rw [h2, clN (by omega), gI_sI, if_neg (by omega)]
    exact h.top.1
  · obtain ⟨rfl, S1, H1, M1⟩ := h9
    have S0 : mS [91] [] σ (sI σ 200 91 (gI σ 200 91 - nI 1)) := mS.rf.f rfl
    exact ⟨rfl, (S0.mono rfl rfl).tr (S1.mono rfl rfl), fun k hk => by rw [H1 k hk, S0.ia 264 rfl rfl], M1⟩
theorem c_qIsOn (F C : List Nat) (o v : Nat) (h : MFq F C o σ) (x : Int32) (hx : x = nI v) (hv : v ≤ 100) :
    MC G g l (d+1) mX6_qIsOn [tM, iv x] σ (fun r t => r = some (iv (bI (decide (F.head? = some v)))) ∧ t = σ) := by
  subst hx
  have h2 := h.2.1
  have h8 := h.2.2.2.2.2.2.2
  refine MC0 tX6_qIsOn rfl okX6_qIsOn rfl rfl rfl rfl (fun P => ?_)
  cases F with
  | nil => exact And.intro (fun _ => ⟨nar0, rfl, rfl⟩) (fun q => absurd (show gI σ 200 91 ≤ nI 0 from by rw [h2]; exact Int32.le_refl _) q)
  | cons u F =>
    rw [List.length_cons] at h2 h8
    have h3 : gI σ 200 91 - nI 1 = nI F.length := by rw [h2, nI_s1 _ _ (by omega)]; rfl
    have ht := h.top
    have hg : gI σ 265 (gI σ 200 91 - nI 1).toNatClampNeg = nI u := by rw [h3, clN (by omega)]; exact ht.1
    refine pk_le (F.length + 1) 0 (fun q => by omega) (fun _ => ?_) h2
    refine And.intro (show vp_in (gI σ 200 91 - nI 1) 1700 from by rw [h3]; exact vinN (by omega) (by decide)) ?_
    refine And.intro (fun q => ?_) (fun q => ?_)
    · have q0 : ¬ gI σ 265 (gI σ 200 91 - nI 1).toNatClampNeg = nI v := q
      rw [hg, nI_eq (by omega) (by omega)] at q0
      exact ⟨nar0, by rw [decide_eq_false (by simpa using q0)]; rfl, rfl⟩
    · have q0 : gI σ 265 (gI σ 200 91 - nI 1).toNatClampNeg = nI v := q
      rw [hg, nI_eq (by omega) (by omega)] at q0
      exact ⟨nar1, by rw [decide_eq_true (by simpa using q0)]; rfl, rfl⟩
theorem c_qIsBracket (x : Int32) (v : Nat) (hx : x = nI v) (hv : v ≤ 100) : MC G g l (d+1) mX6_qIsBracket [ iv x] σ (fun r t => r = some (iv (bI (isMk v))) ∧ t = σ) := by
  subst hx
  refine MC0 tX6_qIsBracket rfl okX6_qIsBracket rfl rfl rfl rfl (fun P => ?_)
  refine pk_lt v 20 (fun h => ⟨nar0, by unfold isMk; rw [decide_eq_false (by omega)]; rfl, rfl⟩) (fun h => pk_lt 24 v (fun h2 => ⟨nar0, by unfold isMk; rw [decide_eq_false (by omega)]; rfl, rfl⟩) (fun h2 => ⟨nar1, by unfold isMk; rw [decide_eq_true (by omega)]; rfl, rfl⟩))
end Y1_q

