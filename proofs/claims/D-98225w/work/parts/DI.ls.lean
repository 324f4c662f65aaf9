/-! lists being built -/
theorem LSTe.withP {P P' : Nat → Prop} {σ : AS} {a e cap : Nat} {es : List Nat} (h : LSTe P σ a e cap es) (h1 : P' a) (h2 : P' e) : LSTe P' σ a e cap es := ⟨⟨h1, h2⟩, h.2⟩
def obs (σ : AS) (es : List Nat) : Prop := ∀ x ∈ es, ∃ c, c < 20 ∧ kd true σ x = (0, c)
theorem isOb20 {c : Nat} (h : c < 20) : isOb (0, c) [0,1,2,3,4,5,6,7,8,9,10,11,12,13,14,15,16,17,18,19] = true := by
  have : ∀ c : Fin 20, isOb (0, c.val) [0,1,2,3,4,5,6,7,8,9,10,11,12,13,14,15,16,17,18,19] = true := by decide
  exact this ⟨c, h⟩
theorem isOb23 {c : Nat} (h : c < 20) : isOb (0, c) [0,1,2,3,4,5,6,7,8,9,10,11,12,13,14,15,16,17,18,19,20,21,22] = true := by
  have : ∀ c : Fin 20, isOb (0, c.val) [0,1,2,3,4,5,6,7,8,9,10,11,12,13,14,15,16,17,18,19,20,21,22] = true := by decide
  exact this ⟨c, h⟩
section DI_
variable (G : CX) (g : GX) (l : Launch) (d : Nat) (σ : AS)
theorem j0_init (a : Nat) : MC G g l (d+1) mJ0_init [rf a] σ (fun r t => r = none ∧ t = σ) :=
  MC0 tJ0_init rfl okJ0_init rfl rfl rfl rfl (fun P => ⟨rfl, rfl⟩)
theorem j1_init (a : Nat) (ka : kd true σ a = (0, 20)) : MC G g l (d+2) mJ1_init [rf a] σ (fun r t => r = none ∧ t = sI σ a 0 (nI 0)) := by
  refine MC1 tJ1_init [2] rfl okJ1_init rfl rfl rfl rfl (fun P hP => hP _ _ _ _ ?_)
  refine mcall (j0_init G g l d σ a) (fun r s1 h9 => ?_)
  obtain ⟨rfl, e9⟩ := h9
  subst e9
  show P 2 [some (rf a)] [] s1
  refine hP _ _ _ _ ?_
  refine grd (b := isOb (kd true s1 a) _) (by rw [ka]; rfl) ?_
  exact ⟨rfl, rfl⟩
theorem l_init (a cap : Nat) (ka : kd true σ a = (0, 20)) (ha : 268 ≤ a) (hlt : a < zn σ) (h1 : 1 ≤ cap) (h4 : cap ≤ 4) (h2 : gI σ a 2 = nI 0) (hr1 : zn σ + 1 ≤ CMAX) (hr2 : zu σ + cap ≤ SMAX) (x : Int32) (hx : x = nI cap) :
    MC G g l (d+3) mJ2_init [rf a, iv x] σ (fun r t => r = none ∧ fS (fun c => c = a) σ t ∧ zn t = zn σ + 1 ∧ zu t = zu σ + cap ∧ LSTe (fun _ => True) t a (zn σ) cap []) := by
  subst hx
  have cc : (nI cap).toNatClampNeg = cap := clN (by omega)
  refine MC1 tJ2_init [2, 7] rfl okJ2_init rfl rfl rfl rfl (fun P hP => hP _ _ _ _ ?_)
  refine mcall (j1_init G g l d σ a ka) (fun r s1 h9 => ?_)
  obtain ⟨rfl, e9⟩ := h9
  have kz : zn s1 = zn σ := by rw [e9]; rfl
  have ku : zu s1 = zu σ := by rw [e9]; rfl
  have k1 : kd true s1 a = (0, 20) := by rw [e9]; exact ka
  have g2 : gI s1 a 2 = nI 0 := by rw [e9, gI_sI, if_neg (by omega)]; exact h2
  have F1 : fS (fun c => c = a) σ s1 := by rw [e9]; exact fS.rf.i (Or.inl rfl)
  show P 2 [some (rf a), some (iv (nI cap))] [] s1
  clear e9
  refine hP _ _ _ _ ?_
  refine And.intro (fun q => absurd (show nI cap ≤ nI 0 from q) (by rw [nI_leI (by omega) (by omega)]; omega)) (fun _ => ?_)
  refine And.intro ⟨show ¬ nI cap < nI 0 by rw [nI_ltI (by omega) (by omega)]; omega, show (nI cap).toNatClampNeg ≤ 100000 by rw [cc]; omega⟩ ?_
  refine And.intro (show zn s1 + 1 ≤ CMAX ∧ zu s1 + (nI cap).toNatClampNeg ≤ SMAX by rw [cc, kz, ku]; exact ⟨hr1, hr2⟩) ?_
  show P 7 [some (rf a), some (iv (nI cap))] [rf (zn s1), rf a] (nw s1 (7, (nI cap).toNatClampNeg) (nI cap).toNatClampNeg)
  rw [cc]
  have hz : 268 ≤ zn s1 := by omega
  have F2 : fS (fun c => c = a) σ (nw s1 (7, cap) cap) := F1.nw1 hz
  have k2 : kd true (nw s1 (7, cap) cap) a = (0, 20) := by rw [kd_nwo (by omega)]; exact k1
  have ke : kd true (nw s1 (7, cap) cap) (zn s1) = (7, cap) := kd_nw hz
  refine hP _ _ _ _ ?_
  refine grd (b := isOb (kd true (nw s1 (7, cap) cap) a) _ && (!true || (fixR a 1).isNone)) (by rw [k2, fx_hi ha]; rfl) ?_
  refine ⟨rfl, F2.r (Or.inl rfl), by show zn s1 + 1 = _; rw [kz], by show zu s1 + cap = _; rw [ku], ⟨trivial, trivial⟩, k2, by rw [← kz]; exact ke, ?_, ?_, ?_, fun i x hx => by simp at hx, fun j _ => ?_⟩
  · rw [gI_sR, gI_nw, if_neg (by omega)]; exact g2
  · rw [gR_set ha, if_pos ⟨rfl, rfl⟩, kz]
  · exact ⟨by simp, by simpa using h4, by simp⟩
  · rw [gR_set ha, if_neg (by omega), gR_nw2 hz, if_pos kz.symm]
theorem shr1 {k : Nat} (h : k ≤ 4000) : nI k >>> (nI 1 &&& 31) = nI (k / 2) := by
  have : ∀ q : Fin 63, ∀ r : Fin 64, nI (64 * q.val + r.val) >>> (nI 1 &&& 31) = nI ((64 * q.val + r.val) / 2) := by decide +kernel
  have h2 := this ⟨k / 64, by omega⟩ ⟨k % 64, by omega⟩
  rw [show 64 * (⟨k / 64, by omega⟩ : Fin 63).val + (⟨k % 64, by omega⟩ : Fin 64).val = k from by show 64 * (k / 64) + k % 64 = k; omega] at h2
  exact h2
theorem j_newLen (x y z : Int32) (a b c : Nat) (hx : x = nI a) (hy : y = nI b) (hz : z = nI c) (ha : 1 ≤ a) (h1 : a ≤ 100000) (h2 : b ≤ 100000) (h3 : c ≤ 100000) : MC G g l (d+2) mJ10_newLength [iv x, iv y, iv z] σ (fun r t => r = some (iv (nI (a + max b c))) ∧ t = σ) := by
  subst hx; subst hy; subst hz
  refine MC1 tJ10_newLength [6] rfl okJ10_newLength rfl rfl rfl rfl (fun P hP => hP _ _ _ _ ?_)
  refine mcall (j_maxI G g l d σ _ _ b c rfl rfl (by omega) (by omega)) (fun r s1 h9 => ?_)
  obtain ⟨rfl, e9⟩ := h9
  subst e9
  show P 6 [some (iv (nI a)), some (iv (nI b)), some (iv (nI c)), some (iv (nI a + nI (max b c)))] [] s1
  rw [nI_add]
  refine hP _ _ _ _ (And.intro (fun q => absurd (show nI (a + max b c) ≤ nI 0 from q) (by rw [nI_leI (by omega) (by omega)]; omega)) (fun _ => And.intro (fun q => absurd (show nI 2147483639 < nI (a + max b c) from q) (by rw [nI_ltI (by omega) (by omega)]; omega)) (fun _ => ⟨rfl, rfl⟩)))
def elO (σ : AS) (e : Nat) : Prop := ∀ j, gR true σ e j = none ∨ ∃ c k, gR true σ e j = some (.inl c) ∧ c < zn σ ∧ k < 20 ∧ kd true σ c = (0, k)
theorem j_copy2 (e cap n : Nat) (ke : kd true σ e = (7, cap)) (he : 268 ≤ e) (hlt : e < zn σ) (hE : elO σ e) (hn : cap ≤ n) (hn2 : n ≤ 10000) (hr1 : zn σ + 1 ≤ CMAX) (hr2 : zu σ + n ≤ SMAX) : MC G g l (d+2) mJ13_copyOf_2 [rf e, iv (nI n), .inr (.inr (some (.inr 95)))] σ (fun r t => r = some (rf (zn σ)) ∧ t = cpR (nw σ (7, n) n) e (zn σ) 0 0 cap) := by
  have cn : (nI n).toNatClampNeg = n := clN (by omega)
  have hz : 268 ≤ zn σ := by omega
  refine MC1 tJ13_copyOf_2 [11, 12, 17, 20] rfl okJ13_copyOf_2 rfl rfl rfl rfl (fun P hP => hP _ _ _ _ ?_)
  refine And.intro ⟨show ¬ nI n < nI 0 by rw [nI_ltI (by omega) (by omega)]; omega, show (nI n).toNatClampNeg ≤ 100000 by rw [cn]; omega⟩ ?_
  refine And.intro (show zn σ + 1 ≤ CMAX ∧ zu σ + (nI n).toNatClampNeg ≤ SMAX by rw [cn]; exact ⟨hr1, hr2⟩) ?_
  show P 11 [some (rf e), some (iv (nI n)), some (.inr (.inr (some (.inr 95)))), none] [rf (zn σ)] (nw σ (7, (nI n).toNatClampNeg) (nI n).toNatClampNeg)
  rw [cn]
  refine hP _ _ _ _ ?_
  show P 12 [some (rf e), some (iv (nI n)), some (.inr (.inr (some (.inr 95)))), some (rf (zn σ))] [] (nw σ (7, n) n)
  generalize hs : nw σ (7, n) n = s
  have k1 : kd true s e = (7, cap) := by rw [← hs, kd_nwo hlt]; exact ke
  have k2 : kd true s (zn σ) = (7, n) := by rw [← hs]; exact kd_nw hz
  have hel : ∀ j, elOK (true, g) s (gR true s e j) := by
    intro j
    rw [show gR true s e j = gR true σ e j by rw [← hs, gR_nw2 hz, if_neg (by omega)]]
    rcases hE j with h | ⟨c, k, h, h1, h2, h3⟩
    · rw [h]; trivial
    · rw [h]
      show isOb (kd true s c) _ = true
      rw [← hs, kd_nwo h1, h3]
      exact isOb23 h2
  refine hP _ _ _ _ ?_
  show P 17 [some (rf e), some (iv (nI n)), some (.inr (.inr (some (.inr 95)))), some (rf (zn σ))] [rf e, iv (nI 0), rf (zn σ), iv (nI 0), rf e] s
  refine hP _ _ _ _ ?_
  refine grd (b := Nat.ble 1 (kd true s e).1 && Nat.ble (kd true s e).1 10) (by rw [k1]; rfl) ?_
  refine mcall (j_minI G g l d s _ _ cap n (show nI (kd true s e).2 = nI cap by rw [k1]) rfl (by omega) (by omega)) (fun r s1 h9 => ?_)
  obtain ⟨rfl, e9⟩ := h9
  subst e9
  show P 20 [some (rf e), some (iv (nI n)), some (.inr (.inr (some (.inr 95)))), some (rf (zn σ))] [iv (nI (min cap n)), iv (nI 0), rf (zn σ), iv (nI 0), rf e] s1
  rw [Nat.min_eq_left hn]
  have cc : (nI cap).toNatClampNeg = cap := clN (by omega)
  have c0 : (nI 0).toNatClampNeg = 0 := rfl
  refine hP _ _ _ _ ?_
  refine And.intro ⟨⟨show ¬ nI 0 < nI 0 by decide, show ¬ nI 0 < nI 0 by decide, show ¬ nI cap < nI 0 by rw [nI_ltI (by omega) (by omega)]; omega⟩, show (nI 0).toNatClampNeg + (nI cap).toNatClampNeg ≤ (kd true s1 e).2 by rw [k1, cc, c0]; show 0 + cap ≤ cap; omega, show (nI 0).toNatClampNeg + (nI cap).toNatClampNeg ≤ (kd true s1 (zn σ)).2 by rw [k2, cc, c0]; show 0 + cap ≤ n; omega⟩ (Or.inr ⟨by rw [k2], by rw [k1], ⟨hz, he⟩, hel, ?_⟩)
  refine ⟨rfl, ?_⟩
  show cpR s1 e (zn σ) (nI 0).toNatClampNeg (nI 0).toNatClampNeg (nI cap).toNatClampNeg = _
  rw [cc, c0, ← hs]
theorem j_copy (e cap n : Nat) (ke : kd true σ e = (7, cap)) (he : 268 ≤ e) (hlt : e < zn σ) (hE : elO σ e) (hn : cap ≤ n) (hn2 : n ≤ 10000) (hr1 : zn σ + 1 ≤ CMAX) (hr2 : zu σ + n ≤ SMAX) : MC G g l (d+3) mJ13_copyOf [rf e, iv (nI n)] σ (fun r t => r = some (rf (zn σ)) ∧ t = cpR (nw σ (7, n) n) e (zn σ) 0 0 cap) := by
  refine MC1 tJ13_copyOf [3] rfl okJ13_copyOf rfl rfl rfl rfl (fun P hP => hP _ _ _ _ ?_)
  show P 3 [some (rf e), some (iv (nI n))] [rf e, iv (nI n), rf e] σ
  refine hP _ _ _ _ ?_
  refine grd (b := Nat.beq (kd true σ e).1 7 && _) (by rw [ke]; rfl) ?_
  refine mcall (j_copy2 G g l d σ e cap n ke he hlt hE hn hn2 hr1 hr2) (fun r s1 h9 => ?_)
  obtain ⟨rfl, e9⟩ := h9
  exact ⟨rfl, e9⟩
theorem LSTe.el {P : Nat → Prop} {σ : AS} {a e cap : Nat} {es : List Nat} (h : LSTe P σ a e cap es) (ho : obs σ es) (hl : ∀ x ∈ es, x < zn σ) : elO σ e := by
  intro j
  cases hx : es[j]? with
  | none => exact Or.inl (h.2.2.2.2.2.2.2 j (List.getElem?_eq_none_iff.mp hx))
  | some x =>
    have hm := List.mem_of_getElem? hx
    obtain ⟨c, h1, h2⟩ := ho x hm
    exact Or.inr ⟨x, c, h.2.2.2.2.2.2.1 j x hx, hl x hm, h1, h2⟩
set_option maxHeartbeats 1000000 in
theorem l_grow2 {Q : Nat → Prop} {a e : Nat} {es : List Nat} (h : LSTe Q σ a e es.length es) (ha : 268 ≤ a) (hal : a < zn σ) (he : 268 ≤ e) (hel : e < zn σ) (ho : obs σ es) (hl : ∀ x ∈ es, x < zn σ) (h1 : 1 ≤ es.length) (hr1 : zn σ + 1 ≤ CMAX) (hr2 : zu σ + 2 * es.length + 4 ≤ SMAX) (x : Int32) (hx : x = nI (es.length + 1)) :
    MC G g l (d+4) mJ2_grow_2 [rf a, iv x] σ (fun r t => r = some (rf (zn σ)) ∧ fS (fun c => c = a) σ t ∧ zn t = zn σ + 1 ∧ zu t ≤ zu σ + 2 * es.length + 4 ∧ ∃ cap, es.length + 1 ≤ cap ∧ LSTe (fun _ => True) t a (zn σ) cap es) := by
  subst hx
  have hE := h.el ho hl
  obtain ⟨-, k1, k2, h2, h3, h4, h5, h6⟩ := h
  refine MC1 tJ2_grow_2 [2, 4, 10, 18, 22, 24, 25] rfl okJ2_grow_2 rfl rfl rfl rfl (fun P hP => hP _ _ _ _ ?_)
  refine grd (b := isOb (kd true σ a) _) (by rw [k1]; rfl) ?_
  show P 2 [some (rf a), some (iv (nI (es.length + 1))), none, none] [rw_ (gR true σ a 1)] σ
  rw [h3]
  refine hP _ _ _ _ ?_
  refine grd (b := Nat.ble 1 (kd true σ e).1 && Nat.ble (kd true σ e).1 10) (by rw [k2]; rfl) ?_
  show P 4 [some (rf a), some (iv (nI (es.length + 1))), some (iv (nI (kd true σ e).2)), none] [] σ
  rw [k2]
  refine hP _ _ _ _ ?_
  refine And.intro (fun _ => ?_) (fun q => absurd (show nI 0 < nI es.length by rw [nI_ltI (by omega) (by omega)]; omega) q)
  show P 10 [some (rf a), some (iv (nI (es.length + 1))), some (iv (nI es.length)), none] [] σ
  refine hP _ _ _ _ ?_
  refine mcall (j_newLen G g l (d+1) σ _ _ _ es.length 1 (es.length / 2) rfl (show nI (es.length + 1) - nI es.length = nI 1 by rw [nI_s1 _ _ (by omega)]; congr 1; omega) (shr1 (by omega)) h1 (by omega) (by omega) (by omega)) (fun r s1 h9 => ?_)
  obtain ⟨rfl, e9⟩ := h9
  subst e9
  obtain ⟨n, hn⟩ : ∃ n, es.length + max 1 (es.length / 2) = n := ⟨_, rfl⟩
  show P 18 [some (rf a), some (iv (nI (es.length + 1))), some (iv (nI es.length)), none] [iv (nI (es.length + max 1 (es.length / 2)))] s1
  rw [hn]
  refine hP _ _ _ _ ?_
  refine grd (b := isOb (kd true s1 a) _) (by rw [k1]; rfl) ?_
  show P 22 [some (rf a), some (iv (nI (es.length + 1))), some (iv (nI es.length)), some (iv (nI n))] [rw_ (gR true s1 a 1), rf a] s1
  rw [h3]
  refine hP _ _ _ _ ?_
  refine mcall (j_copy G g l d s1 e es.length n k2 he hel hE (by omega) (by omega) hr1 (by omega)) (fun r s2 h9 => ?_)
  obtain ⟨rfl, e9⟩ := h9
  have hz : 268 ≤ zn s1 := by omega
  have F2 : fS (fun c => c = a) s1 s2 := by rw [e9]; exact (fS.rf.nw1 hz).cR (Or.inr (Nat.le_refl _))
  have z2 : zn s2 = zn s1 + 1 := by rw [e9]; rfl
  have u2 : zu s2 = zu s1 + n := by rw [e9]; rfl
  have ka2 : kd true s2 a = (0, 20) := (F2.2.1 a hal).trans k1
  have ke2 : kd true s2 (zn s1) = (7, n) := by rw [e9]; exact kd_nw hz
  have gi : gI s2 a 2 = nI es.length := by rw [e9]; show gI (nw s1 (7, n) n) a 2 = _; rw [gI_nw, if_neg (by omega)]; exact h2
  have gr : ∀ j, gR true s2 (zn s1) j = if j < es.length then gR true s1 e j else none := by
    intro j
    rw [e9, gR_cp2 hz he, if_pos rfl]
    by_cases hj : j < es.length
    · rw [if_pos ⟨by omega, by omega⟩, if_pos hj, show 0 + (j - 0) = j by omega, gR_nw2 hz, if_neg (by omega)]
    · rw [if_neg (by omega), if_neg hj, gR_nw2 hz, if_pos rfl]
  show P 24 [some (rf a), some (iv (nI (es.length + 1))), some (iv (nI es.length)), some (iv (nI n))] [rf (zn s1), rf a] s2
  refine hP _ _ _ _ ?_
  show P 25 [some (rf a), some (iv (nI (es.length + 1))), some (iv (nI es.length)), some (iv (nI n))] [rf (zn s1), rf a, rf (zn s1)] s2
  refine hP _ _ _ _ ?_
  refine grd (b := isOb (kd true s2 a) _ && (!true || (fixR a 1).isNone)) (by rw [ka2, fx_hi ha]; rfl) ?_
  refine ⟨rfl, F2.r (Or.inl rfl), z2, by show zu s2 ≤ _; omega, n, by omega, ⟨trivial, trivial⟩, ka2, ke2, gi, ?_, ⟨by omega, by omega, h4.2.2⟩, fun i x hx => ?_, fun j hj => ?_⟩
  · rw [gR_set ha, if_pos ⟨rfl, rfl⟩]
  · have hi : i < es.length := (List.getElem?_eq_some_iff.mp hx).1
    rw [gR_set ha, if_neg (by omega), gr i, if_pos hi]
    exact h5 i x hx
  · rw [gR_set ha, if_neg (by omega), gr j, if_neg (by omega)]
theorem l_grow {Q : Nat → Prop} {a e : Nat} {es : List Nat} (h : LSTe Q σ a e es.length es) (ha : 268 ≤ a) (hal : a < zn σ) (he : 268 ≤ e) (hel : e < zn σ) (ho : obs σ es) (hl : ∀ x ∈ es, x < zn σ) (h1 : 1 ≤ es.length) (hr1 : zn σ + 1 ≤ CMAX) (hr2 : zu σ + 2 * es.length + 4 ≤ SMAX) :
    MC G g l (d+5) mJ2_grow [rf a] σ (fun r t => r = some (rf (zn σ)) ∧ fS (fun c => c = a) σ t ∧ zn t = zn σ + 1 ∧ zu t ≤ zu σ + 2 * es.length + 4 ∧ ∃ cap, es.length + 1 ≤ cap ∧ LSTe (fun _ => True) t a (zn σ) cap es) := by
  have k1 := h.2.1
  have h2 := h.2.2.2.1
  have h9 := h.2.2.2.2.2.1
  refine MC1 tJ2_grow [5] rfl okJ2_grow rfl rfl rfl rfl (fun P hP => hP _ _ _ _ ?_)
  refine grd (b := isOb (kd true σ a) _) (by rw [k1]; rfl) ?_
  show P 5 [some (rf a)] [iv (gI σ a 2 + nI 1), rf a] σ
  refine hP _ _ _ _ (sv1 rfl rfl k1 rfl rfl (mcall (l_grow2 G g l d σ h ha hal he hel ho hl h1 hr1 hr2 _ (show gI σ a 2 + nI 1 = _ by rw [h2, nI_add])) (fun r s1 h9 => ?_)))
  obtain ⟨rfl, h9⟩ := h9
  exact ⟨rfl, h9⟩
def ladP (σ : AS) (a e x : Nat) (es : List Nat) (t : AS) : Prop := fS (fun c => c = a ∨ c = e) σ t ∧ zn t ≤ zn σ + 1 ∧ zu t ≤ zu σ + 2 * es.length + 4 ∧ ∃ e' cap', (e' = e ∨ e' = zn σ) ∧ e' < zn t ∧ LSTe (fun _ => True) t a e' cap' (es ++ [x])
set_option maxHeartbeats 1000000 in
theorem l_add2 {Q : Nat → Prop} {a e cap x : Nat} {es : List Nat} (h : LSTe Q σ a e cap es) (ha : 268 ≤ a) (hal : a < zn σ) (he : 268 ≤ e) (hel : e < zn σ) (hae : a ≠ e) (hxa : x < zn σ) (ho : obs σ (es ++ [x])) (hl : ∀ x ∈ es, x < zn σ) (h1 : 1 ≤ cap) (h40 : es.length < 4000) (hr1 : zn σ + 1 ≤ CMAX) (hr2 : zu σ + 2 * es.length + 4 ≤ SMAX) (z : Int32) (hz : z = nI es.length) :
    MC G g l (d+6) mJ2_add_2 [rf a, rf x, rf e, iv z] σ (fun r t => r = none ∧ ladP σ a e x es t) := by
  subst hz
  have k1 := h.2.1
  have k2 := h.2.2.1
  have h9 := h.2.2.2.2.2.1
  refine MC1 tJ2_add_2 [2, 3, 5, 7, 10, 11] rfl okJ2_add_2 rfl rfl rfl rfl (fun P hP => hP _ _ _ _ ?_)
  have fin : ∀ (e' cap' : Nat) (t : AS), fS (fun c => c = a) σ t → zn t ≤ zn σ + 1 → zu t ≤ zu σ + 2 * es.length + 4 → (e' = e ∨ e' = zn σ) → e' < zn t → 268 ≤ e' → es.length + 1 ≤ cap' → LSTe (fun _ => True) t a e' cap' es → P 7 [some (rf a), some (rf x), some (rf e'), some (iv (nI es.length))] [] t := by
    intro e' cap' t F1 hz hu hee hlt he' hc hL
    have hae' : a ≠ e' := by rcases hee with q | q <;> omega
    obtain ⟨-, m1, m2, m3, m4, m5, m6, m7⟩ := hL
    obtain ⟨c, hc1, hc2⟩ := ho x (by simp)
    have kx : kd true t x = (0, c) := (F1.2.1 x hxa).trans hc2
    have cl : (nI es.length).toNatClampNeg = es.length := clN (by omega)
    refine hP _ _ _ _ ?_
    show P 10 [some (rf a), some (rf x), some (rf e'), some (iv (nI es.length))] [rf x, iv (nI es.length), rf e'] t
    refine hP _ _ _ _ ?_
    refine grd (b := (Nat.beq (kd true t e').1 7 && isOb (kd true t x) [0,1,2,3,4,5,6,7,8,9,10,11,12,13,14,15,16,17,18,19] || Nat.beq (kd true t e').1 8 && isOb (kd true t x) [5]) && (!true || (fixR e' (nI es.length).toNatClampNeg).isNone)) (by rw [m2, kx, fx_hi he', isOb20 hc1]; rfl) ?_
    refine And.intro (show vp_in (nI es.length) (kd true t e').2 by rw [m2]; exact vinN (by show es.length < cap'; omega) (by show cap' ≤ 1000000; omega)) ?_
    show P 11 [some (rf a), some (rf x), some (rf e'), some (iv (nI es.length))] [] (sR t e' (nI es.length).toNatClampNeg (some (.inl x)))
    rw [cl]
    generalize hu9 : sR t e' es.length (some (.inl x)) = u
    have F2 : fS (fun c => c = a ∨ c = e) σ u := by
      rw [← hu9]
      exact (F1.mono (fun c _ q => Or.inl q)).r (by rcases hee with q | q; exact Or.inl (Or.inr q); exact Or.inr (by omega))
    have n1 : kd true u a = (0, 20) := by rw [← hu9]; exact m1
    refine hP _ _ _ _ ?_
    refine grd (b := isOb (kd true u a) _) (by rw [n1]; rfl) ?_
    refine ⟨rfl, F2.i (Or.inl (Or.inl rfl)), by rw [← hu9]; exact hz, by rw [← hu9]; exact hu, e', cap', hee, by rw [← hu9]; exact hlt, ⟨trivial, trivial⟩, n1, by rw [← hu9]; exact m2, ?_, ?_, ⟨by simp; omega, by simp; omega, by simp; omega⟩, fun i y hy => ?_, fun j hj => ?_⟩
    · rw [gI_sI, if_pos ⟨rfl, rfl⟩, nI_add, List.length_append]; rfl
    · rw [gR_sI, ← hu9, gR_set he', if_neg (by omega)]; exact m4
    · rw [gR_sI, ← hu9, gR_set he']
      by_cases e1 : i = es.length
      · rw [if_pos ⟨rfl, e1⟩]
        rw [e1] at hy
        simp at hy
        rw [hy]
      · rw [if_neg (by omega)]
        have hi : i < (es ++ [x]).length := (List.getElem?_eq_some_iff.mp hy).1
        have hi : i < es.length := by simp at hi; omega
        rw [List.getElem?_append_left hi] at hy
        exact m6 i y hy
    · have hj : es.length + 1 ≤ j := by simpa using hj
      rw [gR_sI, ← hu9, gR_set he', if_neg (by omega)]
      exact m7 j (by omega)
  show P 2 [some (rf a), some (rf x), some (rf e), some (iv (nI es.length))] [rf e, iv (nI es.length)] σ
  refine hP _ _ _ _ ?_
  refine grd (b := Nat.ble 1 (kd true σ e).1 && Nat.ble (kd true σ e).1 10) (by rw [k2]; rfl) ?_
  show P 3 [some (rf a), some (rf x), some (rf e), some (iv (nI es.length))] [iv (nI (kd true σ e).2), iv (nI es.length)] σ
  rw [k2]
  refine hP _ _ _ _ (And.intro (fun q => ?_) (fun q => ?_))
  · have q : ¬ nI es.length = nI cap := q
    rw [nI_eq (by omega) (by omega)] at q
    exact fin e cap σ fS.rf (by omega) (by omega) (Or.inl rfl) hel he (by omega) (h.withP trivial trivial)
  · have q : nI es.length = nI cap := q
    rw [nI_eq (by omega) (by omega)] at q
    subst q
    show P 5 [some (rf a), some (rf x), some (rf e), some (iv (nI es.length))] [rf a] σ
    refine hP _ _ _ _ (sv0 rfl rfl k1 rfl rfl (mcall (l_grow G g l d σ h ha hal he hel (fun y hy => ho y (by simp [hy])) hl h1 hr1 hr2) (fun r s1 h9 => ?_)))
    obtain ⟨rfl, F1, z1, u1, cap', hc, hL⟩ := h9
    show P 7 [some (rf a), some (rf x), some (rf (zn σ)), some (iv (nI es.length))] [] s1
    exact fin (zn σ) cap' s1 F1 (by omega) u1 (Or.inr rfl) (by omega) (by omega) hc hL
theorem LSTe.fsK {Q P : Nat → Prop} {σ t : AS} {a e cap : Nat} {es : List Nat} (h : LSTe P σ a e cap es) (hS : fS Q σ t) (h1 : a < zn σ ∧ ¬ Q a) (h2 : e < zn σ ∧ ¬ Q e) : LSTe (fun _ => True) t a e cap es :=
  (h.withP (P' := fun c => c = a ∨ c = e) (Or.inl rfl) (Or.inr rfl)).keep (hS.agr (fun c hc => by rcases hc with rfl | rfl; exact h1; exact h2)) (fun _ _ => trivial)
set_option maxHeartbeats 1000000 in
theorem l_add {Q : Nat → Prop} {a e cap x : Nat} {es : List Nat} (h : LSTe Q σ a e cap es) (ha : 268 ≤ a) (hal : a < zn σ) (he : 268 ≤ e) (hel : e < zn σ) (hae : a ≠ e) (hxa : x < zn σ) (ho : obs σ (es ++ [x])) (hl : ∀ x ∈ es, x < zn σ) (h1 : 1 ≤ cap) (h40 : es.length < 4000) (hr1 : zn σ + 1 ≤ CMAX) (hr2 : zu σ + 2 * es.length + 4 ≤ SMAX) :
    MC G g l (d+7) mJ2_add [rf a, rf x] σ (fun r t => r = some (iv (nI 1)) ∧ ladP σ a e x es t) := by
  have k1 := h.2.1
  refine MC1 tJ2_add [5, 6, 10, 12, 13] rfl okJ2_add rfl rfl rfl rfl (fun P hP => hP _ _ _ _ ?_)
  refine grd (b := isOb (kd true σ a) _) (by rw [k1]; rfl) ?_
  show P 5 [some (rf a), some (rf x)] [iv (gI σ a 0 + nI 1), rf a] σ
  refine hP _ _ _ _ ?_
  refine grd (b := isOb (kd true σ a) _) (by rw [k1]; rfl) ?_
  show P 6 [some (rf a), some (rf x)] [] (sI σ a 0 (gI σ a 0 + nI 1))
  generalize hs : sI σ a 0 (gI σ a 0 + nI 1) = s
  have F1 : fS (fun c => c = a) σ s := by rw [← hs]; exact fS.rf.i (Or.inl rfl)
  have zs : zn s = zn σ := by rw [← hs]; rfl
  have us : zu s = zu σ := by rw [← hs]; rfl
  have kk : ∀ c, kd true s c = kd true σ c := fun c => by rw [← hs]; rfl
  have gr : ∀ c j, gR true s c j = gR true σ c j := fun c j => by rw [← hs]; rfl
  have gi : gI s a 2 = gI σ a 2 := by rw [← hs, gI_sI, if_neg (by omega)]
  have hL : LSTe (fun _ => True) s a e cap es := ⟨⟨trivial, trivial⟩, (kk a).trans k1, (kk e).trans h.2.2.1, gi.trans h.2.2.2.1, (gr a 1).trans h.2.2.2.2.1, h.2.2.2.2.2.1, fun i y hy => (gr e i).trans (h.2.2.2.2.2.2.1 i y hy), fun j hj => (gr e j).trans (h.2.2.2.2.2.2.2 j hj)⟩
  refine hP _ _ _ _ ?_
  refine grd (b := isOb (kd true s a) _) (by rw [kk, k1]; rfl) ?_
  show P 10 [some (rf a), some (rf x)] [rw_ (gR true s a 1), rf x, rf a] s
  rw [hL.2.2.2.2.1]
  refine hP _ _ _ _ ?_
  refine grd (b := isOb (kd true s a) _) (by rw [kk, k1]; rfl) ?_
  show P 12 [some (rf a), some (rf x)] [iv (gI s a 2), rf e, rf x, rf a] s
  refine hP _ _ _ _ ?_
  refine grd (b := Nat.beq (kd true s a).1 0) (by rw [kk, k1]; rfl) ?_
  rw [show kdA (true, g) s (.inl a) = (0, 20) from (kk a).trans k1]
  refine mcall (l_add2 G g l d s hL ha (by omega) he (by omega) hae (by omega) (fun y hy => by
    obtain ⟨c, c1, c2⟩ := ho y hy
    exact ⟨c, c1, (kk y).trans c2⟩) (fun y hy => by rw [zs]; exact hl y hy) h1 h40 (by omega) (by omega) _ hL.2.2.2.1) (fun r s1 h9 => ?_)
  obtain ⟨rfl, F2, z2, u2, e', cap', h5, h6, h7⟩ := h9
  show P 13 [some (rf a), some (rf x)] [] s1
  refine hP _ _ _ _ ⟨nar1, rfl, (F1.mono (fun c _ q => Or.inl q)).tr F2 (fun c _ q => q), by omega, by omega, e', cap', by omega, h6, h7⟩
end DI_
