/-! a test of tests -/
section DX_
variable (G : CX) (g : GX) (l : Launch) (d : Nat) (σ : AS)
set_option maxHeartbeats 1000000 in
theorem x18_init (a : Nat) (b : Bool) (ka : kd true σ a = (0, 16)) (ha : 268 ≤ a) (hlt : a < zn σ) (hr1 : zn σ + 2 ≤ CMAX) (hr2 : zu σ + 5 ≤ SMAX) :
    MC G g l (d+4) mX18_init [rf a, iv (bI b)] σ (fun r t => r = none ∧ fS (fun c => c = a) σ t ∧ zn t = zn σ + 2 ∧ zu t = zu σ + 5 ∧ kd true t a = (0, 16) ∧ gR true t a 0 = some (.inl (zn σ)) ∧ gI t a 1 = bI b ∧ LSTe (fun _ => True) t (zn σ) (zn σ + 1) 2 []) := by
  have hz : 268 ≤ zn σ := by omega
  refine MCI tX18_init [2, 6, 7, 8] rfl okX18_init rfl rfl rfl rfl rfl (fun P hP => hP _ _ _ _ ?_)
  refine mcall (x17_init G g l (d+2) σ a) (fun r s0 h9 => ?_)
  obtain ⟨rfl, e9⟩ := h9
  subst e9
  show P 2 [some (rf a), some (iv (bI b))] [] s0
  refine hP _ _ _ _ ?_
  refine And.intro (show zn s0 + 1 ≤ CMAX ∧ zu s0 + 3 ≤ SMAX from ⟨by omega, by omega⟩) ?_
  show P 6 [some (rf a), some (iv (bI b))] [iv (nI 2), rf (zn s0), rf (zn s0), rf a] (nw s0 (0, 20) 3)
  generalize hs : nw s0 (0, 20) 3 = s
  have F1 : fS (fun c => c = a) s0 s := by rw [← hs]; exact fS.rf.nw1 hz
  have z1 : zn s = zn s0 + 1 := by rw [← hs]; rfl
  have u1 : zu s = zu s0 + 3 := by rw [← hs]; rfl
  have k1 : kd true s (zn s0) = (0, 20) := by rw [← hs]; exact kd_nw hz
  have g1 : gI s (zn s0) 2 = nI 0 := by rw [← hs, gI_nw, if_pos rfl]; rfl
  refine hP _ _ _ _ ?_
  refine mcall (l_init G g l d s (zn s0) 2 k1 hz (by omega) (by omega) (by omega) g1 (by omega) (by omega) _ rfl) (fun r s1 h9 => ?_)
  obtain ⟨rfl, F2, z2, u2, L2⟩ := h9
  have ka1 : kd true s1 a = (0, 16) := (F2.2.1 a (by omega)).trans ((F1.2.1 a hlt).trans ka)
  show P 7 [some (rf a), some (iv (bI b))] [rf (zn s0), rf a] s1
  refine hP _ _ _ _ ?_
  refine grd (b := isOb (kd true s1 a) _ && (!true || (fixR a 0).isNone)) (by rw [ka1, fx_hi ha]; rfl) ?_
  show P 8 [some (rf a), some (iv (bI b))] [] (sR s1 a 0 (some (.inl (zn s0))))
  generalize hu : sR s1 a 0 (some (.inl (zn s0))) = u
  have F3 : fS (fun c => c = a) s0 u := by
    rw [← hu]
    exact (F1.tr F2 (fun c h1 h2 => by omega)).r (Or.inl rfl)
  have zU : zn u = zn s0 + 2 := by rw [← hu]; show zn s1 = _; omega
  have uU : zu u = zu s0 + 5 := by rw [← hu]; show zu s1 = _; omega
  have LU : LSTe (fun _ => True) u (zn s0) (zn s0 + 1) 2 [] := by
    have h0 : LSTe (fun _ => True) s1 (zn s0) (zn s0 + 1) 2 [] := by rw [z1] at L2; exact L2
    rw [← hu]
    exact h0.fsK (Q := fun c => c = a) (fS.rf.r (Or.inl rfl)) ⟨by omega, by omega⟩ ⟨by omega, by omega⟩
  have r0 : gR true u a 0 = some (.inl (zn s0)) := by rw [← hu, gR_set ha, if_pos ⟨rfl, rfl⟩]
  have kaU : kd true u a = (0, 16) := by rw [← hu]; exact ka1
  refine hP _ _ _ _ ?_
  refine grd (b := isOb (kd true u a) _ && Nat.blt 1 5) (by rw [kaU]; rfl) ?_
  refine And.intro (nar_b1k b) ⟨rfl, F3.i (Or.inl rfl), zU, uU, kaU, r0, by rw [gI_sI, if_pos ⟨rfl, rfl⟩], LU.fsK (Q := fun c => c = a) (fS.rf.i (Or.inl rfl)) ⟨by omega, by omega⟩ ⟨by omega, by omega⟩⟩
end DX_
