/-! chains being built: their cell a, list lc with array e, signs sc with array b -/
def chD (z a lc e sc b : Nat) : Prop := (268 ≤ a ∧ 268 ≤ lc ∧ 268 ≤ e ∧ 268 ≤ sc ∧ 268 ≤ b) ∧ (a < z ∧ lc < z ∧ e < z ∧ sc < z ∧ b < z) ∧ (a ≠ lc ∧ a ≠ e ∧ a ≠ sc ∧ a ≠ b) ∧ (lc ≠ e ∧ lc ≠ sc ∧ lc ≠ b) ∧ (e ≠ sc ∧ e ≠ b) ∧ sc ≠ b
def CHB (σ : AS) (a lc e sc b : Nat) (vs gs : List Nat) : Prop := kd true σ a = (0, 9) ∧ gR true σ a 0 = some (.inl lc) ∧ gR true σ a 1 = some (.inl sc) ∧ (∃ cap, 1 ≤ cap ∧ LSTe (fun _ => True) σ lc e cap vs) ∧ (∃ cap, 1 ≤ cap ∧ SBDe (fun _ => True) σ sc b cap gs) ∧ chD (zn σ) a lc e sc b
theorem SBDe.fsK {Q P : Nat → Prop} {σ t : AS} {a e cap : Nat} {es : List Nat} (h : SBDe P σ a e cap es) (hS : fS Q σ t) (h1 : a < zn σ ∧ ¬ Q a) (h2 : e < zn σ ∧ ¬ Q e) : SBDe (fun _ => True) t a e cap es :=
  (h.withP (P' := fun c => c = a ∨ c = e) (Or.inl rfl) (Or.inr rfl)).keep (hS.agr (fun c hc => by rcases hc with rfl | rfl; exact h1; exact h2)) (fun _ _ => trivial)
theorem CHB.fsK {Q : Nat → Prop} {σ t : AS} {a lc e sc b : Nat} {vs gs : List Nat} (h : CHB σ a lc e sc b vs gs) (hS : fS Q σ t) (h1 : ¬ Q a ∧ ¬ Q lc ∧ ¬ Q e ∧ ¬ Q sc ∧ ¬ Q b) : CHB t a lc e sc b vs gs := by
  obtain ⟨c1, c2, c3, ⟨k1, d1, e1⟩, ⟨k2, d2, e2⟩, z1, z2, z3⟩ := h
  have hz := hS.2.2.1
  exact ⟨(hS.2.1 a z2.1).trans c1, ((hS.1 a z2.1 h1.1 0).2.2).trans c2, ((hS.1 a z2.1 h1.1 1).2.2).trans c3, ⟨k1, d1, e1.fsK hS ⟨z2.2.1, h1.2.1⟩ ⟨z2.2.2.1, h1.2.2.1⟩⟩, ⟨k2, d2, e2.fsK hS ⟨z2.2.2.2.1, h1.2.2.2.1⟩ ⟨z2.2.2.2.2, h1.2.2.2.2⟩⟩, z1, ⟨by omega, by omega, by omega, by omega, by omega⟩, z3⟩
/-- a constructor: it may set final fields -/
theorem MCI {G : CX} {g : GX} {l : Launch} {d mi : Nat} {y : MethodName} {cc : ByteArray} {mL : Nat} {rt : Option FieldType} {as : List AV} {s0 : AS} {N : Option AV → AS → Prop} (tab : List Ent) (labs : List Nat)
    (hq : getM MT mi = some (y, cc, mL, rt, [])) (hT : TabOK y.cls rt cc tab) (hfin : tab.all (finOK mL true) = true) (hini : (true && !decide (y.name = "<init>")) = false) (hy : plainName y.cls = true) (h0 : pcAt tab 0 = 0) (hw : Nat.ble (argW as) mL = true)
    (body : ∀ P : KN, (∀ i ls st σ, run (true, g) (callP G (true, g) l (d+1)) tab labs P N NoX 1000 i ls st σ → P i ls st σ) → P 0 (lsOf mL as) [] s0) : MC G g l (d+1) mi as s0 N :=
  CT_intro tab labs true hq hT hfin hini hy (fun _ h => h.elim) h0 hw body
section DK_
variable (G : CX) (g : GX) (l : Launch) (d : Nat) (σ : AS)
theorem x9_init (a : Nat) : MC G g l (d+1) mX9_init [rf a] σ (fun r t => r = none ∧ t = σ) :=
  MC0 tX9_init rfl okX9_init rfl rfl rfl rfl (fun P => ⟨rfl, rfl⟩)
set_option maxHeartbeats 1000000 in
theorem x10_init (a : Nat) (ka : kd true σ a = (0, 9)) (ha : 268 ≤ a) (hlt : a < zn σ) (hr1 : zn σ + 4 ≤ CMAX) (hr2 : zu σ + 40 ≤ SMAX) :
    MC G g l (d+4) mX10_init [rf a] σ (fun r t => r = none ∧ fS (fun c => c = a) σ t ∧ zn t = zn σ + 4 ∧ zu t ≤ zu σ + 40 ∧ CHB t a (zn σ) (zn σ + 1) (zn σ + 2) (zn σ + 3) [] []) := by
  have hz : 268 ≤ zn σ := by omega
  refine MCI tX10_init [2, 6, 7, 8, 11, 12] rfl okX10_init rfl rfl rfl rfl rfl (fun P hP => hP _ _ _ _ ?_)
  refine mcall (x9_init G g l (d+2) σ a) (fun r s0 h9 => ?_)
  obtain ⟨rfl, e9⟩ := h9
  subst e9
  show P 2 [some (rf a)] [] s0
  refine hP _ _ _ _ ?_
  refine And.intro (show zn s0 + 1 ≤ CMAX ∧ zu s0 + 3 ≤ SMAX from ⟨by omega, by omega⟩) ?_
  show P 6 [some (rf a)] [iv (nI 2), rf (zn s0), rf (zn s0), rf a] (nw s0 (0, 20) 3)
  generalize hs : nw s0 (0, 20) 3 = s
  have F1 : fS (fun c => c = a) s0 s := by rw [← hs]; exact fS.rf.nw1 hz
  have z1 : zn s = zn s0 + 1 := by rw [← hs]; rfl
  have u1 : zu s = zu s0 + 3 := by rw [← hs]; rfl
  have k1 : kd true s (zn s0) = (0, 20) := by rw [← hs]; exact kd_nw hz
  have g1 : gI s (zn s0) 2 = nI 0 := by rw [← hs, gI_nw, if_pos rfl]; rfl
  refine hP _ _ _ _ ?_
  refine mcall (l_init G g l d s (zn s0) 2 k1 hz (by omega) (by omega) (by omega) g1 (by omega) (by omega) _ rfl) (fun r s1 h9 => ?_)
  obtain ⟨rfl, F2, z2, u2, L2⟩ := h9
  have ka1 : kd true s1 a = (0, 9) := (F2.2.1 a (by omega)).trans ((F1.2.1 a hlt).trans ka)
  show P 7 [some (rf a)] [rf (zn s0), rf a] s1
  refine hP _ _ _ _ ?_
  refine grd (b := isOb (kd true s1 a) _ && (!true || (fixR a 0).isNone)) (by rw [ka1, fx_hi ha]; rfl) ?_
  show P 8 [some (rf a)] [] (sR s1 a 0 (some (.inl (zn s0))))
  generalize hu : sR s1 a 0 (some (.inl (zn s0))) = u
  have F3 : fS (fun c => c = a) s0 u := by
    rw [← hu]
    exact (F1.tr F2 (fun c h1 h2 => by omega)).r (Or.inl rfl)
  have zU : zn u = zn s0 + 2 := by rw [← hu]; show zn s1 = _; omega
  have uU : zu u = zu s0 + 5 := by rw [← hu]; show zu s1 = _; omega
  have LU : LSTe (fun _ => True) u (zn s0) (zn s0 + 1) 2 [] := by
    have h0 : LSTe (fun _ => True) s1 (zn s0) (zn s0 + 1) 2 [] := by rw [z1] at L2; exact L2
    rw [← hu]
    exact h0.fsK (Q := fun c => c = a) (fS.rf.r (Or.inl rfl)) ⟨by omega, by omega⟩ ⟨by omega, by omega⟩
  have r0 : gR true u a 0 = some (.inl (zn s0)) := by rw [← hu, gR_set ha, if_pos ⟨rfl, rfl⟩]
  have kaU : kd true u a = (0, 9) := by rw [← hu]; exact ka1
  have hzU : 268 ≤ zn u := by omega
  refine hP _ _ _ _ ?_
  refine And.intro (show zn u + 1 ≤ CMAX ∧ zu u + 4 ≤ SMAX from ⟨by omega, by omega⟩) ?_
  show P 11 [some (rf a)] [rf (zn u), rf (zn u), rf a] (nw u (0, 21) 4)
  generalize hv : nw u (0, 21) 4 = v
  have F4 : fS (fun c => c = a) u v := by rw [← hv]; exact fS.rf.nw1 hzU
  have z4 : zn v = zn u + 1 := by rw [← hv]; rfl
  have u4 : zu v = zu u + 4 := by rw [← hv]; rfl
  have k4 : kd true v (zn u) = (0, 21) := by rw [← hv]; exact kd_nw hzU
  have g4 : gI v (zn u) 3 = nI 0 := by rw [← hv, gI_nw, if_pos rfl]; rfl
  refine hP _ _ _ _ ?_
  refine mcall (b_init G g l (d+1) v (zn u) k4 hzU (by omega) g4 (by omega) (by omega)) (fun r s5 h9 => ?_)
  obtain ⟨rfl, F5, z5, u5, B5⟩ := h9
  have F45 : fS (fun c => c = a) u s5 := F4.tr F5 (fun c h1 h2 => by omega)
  have ka5 : kd true s5 a = (0, 9) := (F45.2.1 a (by omega)).trans kaU
  show P 12 [some (rf a)] [rf (zn u), rf a] s5
  refine hP _ _ _ _ ?_
  refine grd (b := isOb (kd true s5 a) _ && (!true || (fixR a 1).isNone)) (by rw [ka5, fx_hi ha]; rfl) ?_
  have F6 : fS (fun c => c = a) s5 (sR s5 a 1 (some (.inl (zn u)))) := fS.rf.r (Or.inl rfl)
  have L6 : LSTe (fun _ => True) (sR s5 a 1 (some (.inl (zn u)))) (zn s0) (zn s0 + 1) 2 [] := LU.fsK (F45.tr F6 (fun c _ q => q)) ⟨by omega, by omega⟩ ⟨by omega, by omega⟩
  have B6 : SBDe (fun _ => True) (sR s5 a 1 (some (.inl (zn u)))) (zn u) (zn v) 16 [] := B5.fsK F6 ⟨by omega, by omega⟩ ⟨by omega, by omega⟩
  have F54 : fS (fun c => c = zn u) v s5 := F5
  have r05 : gR true s5 a 0 = some (.inl (zn s0)) := by
    rw [(F54.1 a (by omega) (by omega) 0).2.2, ← hv, gR_nw2 hzU, if_neg (by omega)]
    exact r0
  have e2 : zn u = zn s0 + 2 := zU
  have e3 : zn v = zn s0 + 3 := by omega
  rw [e2, e3] at B6
  refine ⟨rfl, F3.tr (F45.tr F6 (fun c _ q => q)) (fun c _ q => q), by show zn s5 = _; omega, by show zu s5 ≤ _; omega, ka5, ?_, ?_, ⟨2, by omega, L6⟩, ⟨16, by omega, ?_⟩, ?_⟩
  · rw [gR_set ha, if_neg (by omega)]; exact r05
  · rw [gR_set ha, if_pos ⟨rfl, rfl⟩, e2]
  · rw [e2]; exact B6
  · have e5 : zn (sR s5 a 1 (some (.inl (zn u)))) = zn s0 + 4 := by show zn s5 = _; omega
    unfold chD
    rw [e5]
    omega
/-- after one more link -/
def chP (σ : AS) (a lc e sc b v c : Nat) (vs gs : List Nat) (t : AS) : Prop := fS (fun x => x = lc ∨ x = e ∨ x = sc ∨ x = b) σ t ∧ zn t ≤ zn σ + 2 ∧ zu t ≤ zu σ + 2 * vs.length + 2 * gs.length + 6 ∧ ∃ e' b', (e' = e ∨ zn σ ≤ e') ∧ (b' = b ∨ zn σ ≤ b') ∧ CHB t a lc e' sc b' (vs ++ [v]) (gs ++ [c])
set_option maxHeartbeats 1000000 in
theorem x10_add {a lc e sc b v c : Nat} {vs gs : List Nat} (h : CHB σ a lc e sc b vs gs) (ho : obs σ (vs ++ [v])) (hl : ∀ x ∈ vs ++ [v], x < zn σ) (hc : sgOK c) (h40 : vs.length < 4000) (h41 : gs.length < 4000) (hr1 : zn σ + 2 ≤ CMAX) (hr2 : zu σ + 2 * vs.length + 2 * gs.length + 6 ≤ SMAX) :
    MC G g l (d+8) mX10_add [rf a, iv (nI c), rf v] σ (fun r t => r = none ∧ chP σ a lc e sc b v c vs gs t) := by
  have h0 := h
  obtain ⟨c1, c2, c3, ⟨cap, hcap, hL⟩, ⟨cap2, hcap2, hB⟩, D⟩ := h
  have D0 := D
  unfold chD at D
  refine MC1 tX10_add [3, 4, 5, 8, 9] rfl okX10_add rfl rfl rfl rfl (fun P hP => hP _ _ _ _ ?_)
  refine grd (b := isOb (kd true σ a) _) (by rw [c1]; rfl) ?_
  show P 3 [some (rf a), some (iv (nI c)), some (rf v)] [iv (nI c), rw_ (gR true σ a 1)] σ
  refine hP _ _ _ _ (sv1 rfl c3 hB.2.1 rfl rfl (mcall (b_append G g l (d+1) σ hB (by omega) (by omega) (by omega) (by omega) h41 hcap2 (by omega) (by omega) hc) (fun r s1 h9 => ?_)))
  obtain ⟨rfl, F1, z1, u1, b', cap', hb', hbz, hB'⟩ := h9
  have k1 : kd true s1 a = (0, 9) := (F1.2.1 a (by omega)).trans c1
  have r1 : gR true s1 a 0 = some (.inl lc) := ((F1.1 a (by omega) (by omega) 0).2.2).trans c2
  have r2 : gR true s1 a 1 = some (.inl sc) := ((F1.1 a (by omega) (by omega) 1).2.2).trans c3
  have L1 : LSTe (fun _ => True) s1 lc e cap vs := hL.fsK F1 ⟨by omega, by omega⟩ ⟨by omega, by omega⟩
  have hz1 := F1.2.2.1
  show P 4 [some (rf a), some (iv (nI c)), some (rf v)] [rf sc] s1
  refine hP _ _ _ _ ?_
  show P 5 [some (rf a), some (iv (nI c)), some (rf v)] [] s1
  refine hP _ _ _ _ ?_
  refine grd (b := isOb (kd true s1 a) _) (by rw [k1]; rfl) ?_
  show P 8 [some (rf a), some (iv (nI c)), some (rf v)] [rf v, rw_ (gR true s1 a 0)] s1
  refine hP _ _ _ _ (si1 rfl r1 L1.2.1 rfl rfl (mcall (l_add G g l d s1 L1 (by omega) (by omega) (by omega) (by omega) (by omega) (by have := hl v (by simp); omega) (fun y hy => by
    obtain ⟨k, k1, k2⟩ := ho y hy
    exact ⟨k, k1, (F1.2.1 y (hl y hy)).trans k2⟩) (fun y hy => by have := hl y (by simp [hy]); omega) hcap h40 (by omega) (by omega)) (fun r s2 h9 => ?_)))
  obtain ⟨rfl, F2, z2, u2, e', cap'', he', hez, hL'⟩ := h9
  have hz2 := F2.2.2.1
  show P 9 [some (rf a), some (iv (nI c)), some (rf v)] [iv (nI 1)] s2
  have hbl : gs.length + 1 ≤ cap' := by have := hB'.2.2.2.2.2.2.1.1; simpa using this
  have hel : vs.length + 1 ≤ cap'' := by have := hL'.2.2.2.2.2.1.1; simpa using this
  refine hP _ _ _ _ ⟨rfl, F1.mono (fun x _ q => by omega) |>.tr F2 (fun x _ q => by omega), by omega, by omega, e', b', by omega, by omega, (F2.2.1 a (by omega)).trans k1, ?_, ?_, ⟨cap'', by omega, hL'⟩, ⟨cap', by omega, hB'.fsK F2 ⟨by omega, by omega⟩ ⟨by omega, by omega⟩⟩, ?_⟩
  · rw [(F2.1 a (by omega) (by omega) 0).2.2]; exact r1
  · rw [(F2.1 a (by omega) (by omega) 1).2.2]; exact r2
  · unfold chD
    omega
end DK_
