/-! new values -/
section DL_
variable (G : CX) (g : GX) (l : Launch) (d : Nat) (σ : AS)
theorem x12_init (a : Nat) (v : Int64) (ka : kd true σ a = (0, 11)) : MC G g l (d+2) mX12_init [rf a, .inr (.inl v)] σ (fun r t => r = none ∧ t = sL σ a 0 v) := by
  refine MCI tX12_init [2] rfl okX12_init rfl rfl rfl rfl rfl (fun P hP => hP _ _ _ _ ?_)
  refine mcall (x9_init G g l d σ a) (fun r s0 h9 => ?_)
  obtain ⟨rfl, e9⟩ := h9
  subst e9
  show P 2 [some (rf a), some (.inr (.inl v)), none] [] s0
  refine hP _ _ _ _ ?_
  refine grd (b := isOb (kd true s0 a) _) (by rw [ka]; rfl) ?_
  exact ⟨rfl, rfl⟩
theorem x13_init (a : Nat) (v : Int32) (ka : kd true σ a = (0, 12)) : MC G g l (d+2) mX13_init [rf a, iv v] σ (fun r t => r = none ∧ t = sI σ a 0 v) := by
  refine MCI tX13_init [2] rfl okX13_init rfl rfl rfl rfl rfl (fun P hP => hP _ _ _ _ ?_)
  refine mcall (x9_init G g l d σ a) (fun r s0 h9 => ?_)
  obtain ⟨rfl, e9⟩ := h9
  subst e9
  show P 2 [some (rf a), some (iv v)] [] s0
  refine hP _ _ _ _ ?_
  refine grd (b := isOb (kd true s0 a) _) (by rw [ka]; rfl) ?_
  exact ⟨rfl, rfl⟩
theorem nar_b1k (m : Bool) : NarOK 1 (bI m) := by cases m <;> exact ⟨rfl, rfl⟩
theorem x11_init (a v1 v2 : Nat) (m : Bool) (ka : kd true σ a = (0, 10)) (ha : 268 ≤ a) : MC G g l (d+2) mX11_init [rf a, iv (bI m), rf v1, rf v2] σ (fun r t => r = none ∧ t = sR (sR (sI σ a 0 (bI m)) a 1 (some (.inl v1))) a 2 (some (.inl v2))) := by
  refine MCI tX11_init [2, 5, 8] rfl okX11_init rfl rfl rfl rfl rfl (fun P hP => hP _ _ _ _ ?_)
  refine mcall (x9_init G g l d σ a) (fun r s0 h9 => ?_)
  obtain ⟨rfl, e9⟩ := h9
  subst e9
  show P 2 [some (rf a), some (iv (bI m)), some (rf v1), some (rf v2)] [] s0
  refine hP _ _ _ _ ?_
  refine grd (b := isOb (kd true s0 a) _ && Nat.blt 1 5) (by rw [ka]; rfl) ?_
  refine And.intro (nar_b1k m) ?_
  show P 5 [some (rf a), some (iv (bI m)), some (rf v1), some (rf v2)] [] (sI s0 a 0 (bI m))
  generalize hs : sI s0 a 0 (bI m) = s
  have k1 : kd true s a = (0, 10) := by rw [← hs]; exact ka
  refine hP _ _ _ _ ?_
  refine grd (b := isOb (kd true s a) _ && (!true || (fixR a 1).isNone)) (by rw [k1, fx_hi ha]; rfl) ?_
  show P 8 [some (rf a), some (iv (bI m)), some (rf v1), some (rf v2)] [] (sR s a 1 (some (.inl v1)))
  generalize hu : sR s a 1 (some (.inl v1)) = u
  have k2 : kd true u a = (0, 10) := by rw [← hu]; exact k1
  refine hP _ _ _ _ ?_
  refine grd (b := isOb (kd true u a) _ && (!true || (fixR a 2).isNone)) (by rw [k2, fx_hi ha]; rfl) ?_
  exact ⟨rfl, by rw [← hu, ← hs]⟩
theorem x14_init (a v : Nat) (k : Int32) (ka : kd true σ a = (0, 13)) (ha : 268 ≤ a) : MC G g l (d+2) mX14_init [rf a, rf 0, iv k, rf v] σ (fun r t => r = none ∧ t = sR (sI (sR σ a 2 (some (.inl 0))) a 0 k) a 1 (some (.inl v))) := by
  refine MCI tX14_init [3, 5, 8] rfl okX14_init rfl rfl rfl rfl rfl (fun P hP => hP _ _ _ _ ?_)
  refine grd (b := isOb (kd true σ a) _ && (!true || (fixR a 2).isNone)) (by rw [ka, fx_hi ha]; rfl) ?_
  show P 3 [some (rf a), some (rf 0), some (iv k), some (rf v)] [] (sR σ a 2 (some (.inl 0)))
  generalize hs : sR σ a 2 (some (.inl 0)) = s
  have k1 : kd true s a = (0, 13) := by rw [← hs]; exact ka
  refine hP _ _ _ _ ?_
  refine mcall (x9_init G g l d s a) (fun r s0 h9 => ?_)
  obtain ⟨rfl, e9⟩ := h9
  subst e9
  show P 5 [some (rf a), some (rf 0), some (iv k), some (rf v)] [] s0
  refine hP _ _ _ _ ?_
  refine grd (b := isOb (kd true s0 a) _) (by rw [k1]; rfl) ?_
  show P 8 [some (rf a), some (rf 0), some (iv k), some (rf v)] [] (sI s0 a 0 k)
  generalize hu : sI s0 a 0 k = u
  have k2 : kd true u a = (0, 13) := by rw [← hu]; exact k1
  refine hP _ _ _ _ ?_
  refine grd (b := isOb (kd true u a) _ && (!true || (fixR a 1).isNone)) (by rw [k2, fx_hi ha]; rfl) ?_
  exact ⟨rfl, by rw [← hu, ← hs]⟩
end DL_
/-! strings from letters -/
section DL2_
variable (G : CX) (g : GX) (l : Launch) (d : Nat) (σ : AS)
theorem let_b {k : Nat} (h : k < 26) : (nI (97 + k)).toInt8.toInt32 = nI (97 + k) ∧ vp_nar (tyOf 2) (nI (97 + k)) = nI (97 + k) := by
  have h1 : ∀ k : Fin 26, (nI (97 + k.val)).toInt8.toInt32 = nI (97 + k.val) := by decide
  have h2 : ∀ k : Fin 26, vp_nar (tyOf 2) (nI (97 + k.val)) = nI (97 + k.val) := by decide
  exact ⟨h1 ⟨k, h⟩, h2 ⟨k, h⟩⟩
set_option maxHeartbeats 1000000 in
theorem j_compress2 (ca ba m : Nat) (w : List Nat) (hw : isLw w) (hl : w.length = m) (hm : m ≤ 2000) (k1 : kd true σ ca = (3, m)) (k2 : kd true σ ba = (2, m)) (hne : ca ≠ ba) (hc : ∀ (i x : Nat), w[i]? = some x → gI σ ca i = nI x) :
    MC G g l (d+1) mJ7_compress_2 [rf ca, iv (nI 0), rf ba, iv (nI 0), iv (nI m)] σ (fun r t => r = some (iv (nI m)) ∧ fS (fun c => c = ba) σ t ∧ zn t = zn σ ∧ zu t = zu σ ∧ ∀ (i x : Nat), w[i]? = some x → gI t ba i = nI x) := by
  refine MC1 tJ7_compress_2 [2, 9, 14, 18, 19] rfl okJ7_compress_2 rfl rfl rfl rfl (fun P hP => hP _ _ _ _ ?_)
  have key : ∀ (j i : Nat) (t : AS) (o6 : Option AV), i + j = m → fS (fun c => c = ba) σ t → zn t = zn σ → zu t = zu σ → (∀ (i' x : Nat), i' < i → w[i']? = some x → gI t ba i' = nI x) → (∀ (i x : Nat), w[i]? = some x → gI t ca i = nI x) → kd true t ca = (3, m) → kd true t ba = (2, m) →
      P 2 [some (rf ca), some (iv (nI i)), some (rf ba), some (iv (nI i)), some (iv (nI m)), some (iv (nI i)), o6] [] t := by
    intro j
    induction j with
    | zero =>
      intro i t o6 hi F hz hu hd hca _ _
      refine hP _ _ _ _ (And.intro (fun _ => ⟨rfl, F, hz, hu, fun i' x hx => hd i' x (by have := (List.getElem?_eq_some_iff.mp hx).1; omega) hx⟩) (fun q => absurd (nI_le (by omega) (by omega)) q))
    | succ j ih =>
      intro i t o6 hi F hz hu hd hca n1 n2
      have him : i < m := by omega
      obtain ⟨x, hx⟩ : ∃ x, w[i]? = some x := ⟨_, List.getElem?_eq_getElem (by omega)⟩
      have hxl := hw x (List.mem_of_getElem? hx)
      obtain ⟨k, hk, rfl⟩ : ∃ k, k < 26 ∧ x = 97 + k := ⟨x - 97, by omega, by omega⟩
      have ci : (nI i).toNatClampNeg = i := clN (by omega)
      refine hP _ _ _ _ (And.intro (fun q => absurd q (nI_ge (by omega) (by omega))) (fun _ => ?_))
      refine grd (b := Nat.beq (kd true t ca).1 3) (by rw [n1]; rfl) ?_
      refine And.intro (show vp_in (nI i) (kd true t ca).2 by rw [n1]; exact vinN him (by show m ≤ 1000000; omega)) ?_
      show P 9 [some (rf ca), some (iv (nI i)), some (rf ba), some (iv (nI i)), some (iv (nI m)), some (iv (nI i)), some (iv (gI t ca (nI i).toNatClampNeg))] [] t
      rw [ci, hca i _ hx]
      refine hP _ _ _ _ (And.intro (fun _ => ?_) (fun q => absurd (show nI (97 + k) ≤ nI 255 by rw [nI_leI (by omega) (by omega)]; omega) q))
      show P 14 [some (rf ca), some (iv (nI i)), some (rf ba), some (iv (nI i)), some (iv (nI m)), some (iv (nI i)), some (iv (nI (97 + k)))] [] t
      refine hP _ _ _ _ ?_
      show P 18 [some (rf ca), some (iv (nI i)), some (rf ba), some (iv (nI i)), some (iv (nI m)), some (iv (nI i)), some (iv (nI (97 + k)))] [iv (nI (97 + k)).toInt8.toInt32, iv (nI i), rf ba] t
      rw [(let_b hk).1]
      refine hP _ _ _ _ ?_
      refine grd (b := Nat.beq (kd true t ba).1 1 || Nat.beq (kd true t ba).1 2) (by rw [n2]; rfl) ?_
      refine And.intro (show vp_in (nI i) (kd true t ba).2 by rw [n2]; exact vinN him (by show m ≤ 1000000; omega)) ?_
      show P 19 [some (rf ca), some (iv (nI i)), some (rf ba), some (iv (nI i)), some (iv (nI m)), some (iv (nI i)), some (iv (nI (97 + k)))] [] (sI t ba (nI i).toNatClampNeg (vp_nar (tyOf (kd true t ba).1) (nI (97 + k))))
      rw [ci, n2, show vp_nar (tyOf (2, m).1) (nI (97 + k)) = nI (97 + k) from (let_b hk).2]
      refine hP _ _ _ _ ?_
      show P 2 [some (rf ca), some (iv (nI i + nI 1)), some (rf ba), some (iv (nI i + nI 1)), some (iv (nI m)), some (iv (nI i + nI 1)), some (iv (nI (97 + k)))] [] (sI t ba i (nI (97 + k)))
      rw [nI_add]
      refine ih (i+1) _ _ (by omega) (F.i (Or.inl rfl)) hz hu (fun i' x hi' hx' => ?_) (fun i' x hx' => ?_) n1 n2
      · rw [gI_sI]
        by_cases e : i' = i
        · rw [if_pos ⟨rfl, e⟩]
          rw [e, hx] at hx'
          exact congrArg nI (Option.some.inj hx')
        · rw [if_neg (by omega)]; exact hd i' x (by omega) hx'
      · rw [gI_sI, if_neg (by omega)]; exact hca i' x hx'
  exact key m 0 σ none (by omega) fS.rf rfl rfl (fun i' x hi' => by omega) hc k1 k2
set_option maxHeartbeats 1000000 in
theorem j_compress (ca : Nat) (w : List Nat) (hw : isLw w) (hm : w.length ≤ 2000) (hz : 268 ≤ zn σ) (hca : ca < zn σ) (k1 : kd true σ ca = (3, w.length)) (hc : ∀ (i x : Nat), w[i]? = some x → gI σ ca i = nI x) (hr1 : zn σ + 1 ≤ CMAX) (hr2 : zu σ + w.length ≤ SMAX) :
    MC G g l (d+2) mJ7_compress [rf ca, iv (nI 0), iv (nI w.length)] σ (fun r t => r = some (rf (zn σ)) ∧ fS (fun _ => False) σ t ∧ zn t = zn σ + 1 ∧ zu t = zu σ + w.length ∧ kd true t (zn σ) = (2, w.length) ∧ ∀ (i x : Nat), w[i]? = some x → gI t (zn σ) i = nI x) := by
  have cn : (nI w.length).toNatClampNeg = w.length := clN (by omega)
  refine MC1 tJ7_compress [2, 3, 8, 10] rfl okJ7_compress rfl rfl rfl rfl (fun P hP => hP _ _ _ _ ?_)
  refine And.intro ⟨show ¬ nI w.length < nI 0 by rw [nI_ltI (by omega) (by omega)]; omega, show (nI w.length).toNatClampNeg ≤ 100000 by rw [cn]; omega⟩ ?_
  refine And.intro (show zn σ + 1 ≤ CMAX ∧ zu σ + (nI w.length).toNatClampNeg ≤ SMAX by rw [cn]; exact ⟨hr1, hr2⟩) ?_
  show P 2 [some (rf ca), some (iv (nI 0)), some (iv (nI w.length)), none, none, none] [rf (zn σ)] (nw σ (2, (nI w.length).toNatClampNeg) (nI w.length).toNatClampNeg)
  rw [cn]
  generalize hs : nw σ (2, w.length) w.length = s
  have F1 : fS (fun _ => False) σ s := by rw [← hs]; exact fS.rf.nw1 hz
  have z1 : zn s = zn σ + 1 := by rw [← hs]; rfl
  have u1 : zu s = zu σ + w.length := by rw [← hs]; rfl
  have n2 : kd true s (zn σ) = (2, w.length) := by rw [← hs]; exact kd_nw hz
  refine hP _ _ _ _ ?_
  show P 3 [some (rf ca), some (iv (nI 0)), some (iv (nI w.length)), some (rf (zn σ)), none, none] [] s
  refine hP _ _ _ _ ?_
  show P 8 [some (rf ca), some (iv (nI 0)), some (iv (nI w.length)), some (rf (zn σ)), none, none] [iv (nI w.length), iv (nI 0), rf (zn σ), iv (nI 0), rf ca] s
  refine hP _ _ _ _ ?_
  refine mcall (j_compress2 G g l d s ca (zn σ) w.length w hw rfl hm ((F1.2.1 ca hca).trans k1) n2 (by omega) (fun i x hx => ((F1.1 ca hca (fun z => z) i).1).trans (hc i x hx))) (fun r s1 h9 => ?_)
  obtain ⟨rfl, F2, z2, u2, hb⟩ := h9
  show P 10 [some (rf ca), some (iv (nI 0)), some (iv (nI w.length)), some (rf (zn σ)), some (iv (nI w.length)), none] [] s1
  refine hP _ _ _ _ (And.intro (fun _ => ⟨rfl, F1.tr F2 (fun c h1 h2 => by omega), by omega, by omega, (F2.2.1 (zn σ) (by omega)).trans n2, hb⟩) (fun q => absurd rfl q))
theorem j_coderLen (ba n : Nat) (hn : n ≤ 100000) (k2 : kd true σ ba = (2, n)) : MC G g l (d+1) mJ7_coderFromArrayLen [rf ba, iv (nI n)] σ (fun r t => r = some (iv (nI 0)) ∧ t = σ) := by
  refine MC1 tJ7_coderFromArrayLen [2, 3, 4] rfl okJ7_coderFromArrayLen rfl rfl rfl rfl (fun P hP => hP _ _ _ _ ?_)
  show P 2 [some (rf ba), some (iv (nI n))] [rf ba, iv (nI n)] σ
  refine hP _ _ _ _ ?_
  refine grd (b := Nat.ble 1 (kd true σ ba).1 && Nat.ble (kd true σ ba).1 10) (by rw [k2]; rfl) ?_
  show P 3 [some (rf ba), some (iv (nI n))] [iv (nI (kd true σ ba).2), iv (nI n)] σ
  rw [k2]
  refine hP _ _ _ _ ?_
  have e : nI n - nI n = nI 0 := Int32.sub_self _
  show P 4 [some (rf ba), some (iv (nI n))] [iv (nI n - nI n)] σ
  rw [e]
  exact hP _ _ _ _ ⟨⟨rfl, rfl⟩, rfl, rfl⟩
/-- a new string: its cell a, never hashed -/
def STn (σ : AS) (a : Nat) (w : List Nat) : Prop := gI σ a 2 = nI 0 ∧ gI σ a 3 = nI 0 ∧ STR (fun _ => True) σ a w
set_option maxHeartbeats 1000000 in
theorem j_sinit2 (a ca : Nat) (w : List Nat) (hw : isLw w) (h1 : 1 ≤ w.length) (hm : w.length ≤ 2000) (ha : 268 ≤ a) (hal : a < zn σ) (ka : kd true σ a = (0, 22)) (g2 : gI σ a 2 = nI 0) (g3 : gI σ a 3 = nI 0) (hca : ca < zn σ) (k1 : kd true σ ca = (3, w.length)) (hc : ∀ (i x : Nat), w[i]? = some x → gI σ ca i = nI x) (hr1 : zn σ + 1 ≤ CMAX) (hr2 : zu σ + w.length ≤ SMAX) :
    MC G g l (d+3) mJ6_init_2 [rf a, rf ca, iv (nI 0), iv (nI w.length), .inr (.inr none)] σ (fun r t => r = none ∧ fS (fun c => c = a) σ t ∧ zn t = zn σ + 1 ∧ zu t = zu σ + w.length ∧ STn t a w ∧ gR true t a 0 = some (.inl (zn σ))) := by
  refine MCI tJ6_init_2 [2, 13, 18, 20, 23, 24, 25] rfl okJ6_init_2 rfl rfl rfl rfl rfl (fun P hP => hP _ _ _ _ ?_)
  show P 2 [some (rf a), some (rf ca), some (iv (nI 0)), some (iv (nI w.length)), some (.inr (.inr none)), none] [] σ
  refine hP _ _ _ _ ?_
  refine And.intro (fun _ => ?_) (fun q => absurd (show nI w.length = nI 0 from q) (by rw [nI_eq (by omega) (by omega)]; omega))
  show P 13 [some (rf a), some (rf ca), some (iv (nI 0)), some (iv (nI w.length)), some (.inr (.inr none)), none] [] σ
  refine hP _ _ _ _ (And.intro (fun q => absurd q (by decide)) (fun _ => ?_))
  show P 18 [some (rf a), some (rf ca), some (iv (nI 0)), some (iv (nI w.length)), some (.inr (.inr none)), none] [iv (nI w.length), iv (nI 0), rf ca] σ
  refine hP _ _ _ _ ?_
  refine mcall (j_compress G g l d σ ca w hw hm (by omega) hca k1 hc hr1 hr2) (fun r s1 h9 => ?_)
  obtain ⟨rfl, F1, z1, u1, k2, hb⟩ := h9
  show P 20 [some (rf a), some (rf ca), some (iv (nI 0)), some (iv (nI w.length)), some (.inr (.inr none)), some (rf (zn σ))] [] s1
  refine hP _ _ _ _ ?_
  show P 23 [some (rf a), some (rf ca), some (iv (nI 0)), some (iv (nI w.length)), some (.inr (.inr none)), some (rf (zn σ))] [iv (nI w.length), rf (zn σ), rf a] s1
  refine hP _ _ _ _ ?_
  refine mcall (j_coderLen G g l (d+1) s1 (zn σ) w.length (by omega) k2) (fun r s2 h9 => ?_)
  obtain ⟨rfl, e9⟩ := h9
  subst e9
  have ka2 : kd true s2 a = (0, 22) := (F1.2.1 a hal).trans ka
  show P 24 [some (rf a), some (rf ca), some (iv (nI 0)), some (iv (nI w.length)), some (.inr (.inr none)), some (rf (zn σ))] [iv (nI 0), rf a] s2
  refine hP _ _ _ _ ?_
  refine grd (b := isOb (kd true s2 a) _ && Nat.blt 2 5) (by rw [ka2]; rfl) ?_
  refine And.intro nar20 ?_
  show P 25 [some (rf a), some (rf ca), some (iv (nI 0)), some (iv (nI w.length)), some (.inr (.inr none)), some (rf (zn σ))] [] (sI s2 a 1 (nI 0))
  refine hP _ _ _ _ ?_
  refine grd (b := isOb (kd true (sI s2 a 1 (nI 0)) a) _ && (!true || (fixR a 0).isNone)) (by rw [show kd true (sI s2 a 1 (nI 0)) a = (0, 22) from ka2, fx_hi ha]; rfl) ?_
  have F2 : fS (fun c => c = a) σ s2 := F1.mono (fun c _ q => q.elim)
  refine ⟨rfl, (F2.i (Or.inl rfl)).r (Or.inl rfl), z1, u1, ⟨?_, ?_, trivial, ka2, ?_, zn σ, trivial, ?_, k2, fun i x hx => ?_⟩, ?_⟩
  · rw [gI_sR, gI_sI, if_neg (by omega), (F1.1 a hal (fun z => z) 2).1]; exact g2
  · rw [gI_sR, gI_sI, if_neg (by omega), (F1.1 a hal (fun z => z) 3).1]; exact g3
  · rw [gI_sR, gI_sI, if_pos ⟨rfl, rfl⟩]
  · rw [gR_set ha, if_pos ⟨rfl, rfl⟩]
  · rw [gI_sR, gI_sI, if_neg (by omega)]; exact hb i x hx
  · rw [gR_set ha, if_pos ⟨rfl, rfl⟩]
theorem j_sinit (a ca : Nat) (w : List Nat) (hw : isLw w) (h1 : 1 ≤ w.length) (hm : w.length ≤ 2000) (ha : 268 ≤ a) (hal : a < zn σ) (ka : kd true σ a = (0, 22)) (g2 : gI σ a 2 = nI 0) (g3 : gI σ a 3 = nI 0) (hca : ca < zn σ) (k1 : kd true σ ca = (3, w.length)) (hc : ∀ (i x : Nat), w[i]? = some x → gI σ ca i = nI x) (hr1 : zn σ + 1 ≤ CMAX) (hr2 : zu σ + w.length ≤ SMAX) :
    MC G g l (d+4) mJ6_init [rf a, rf ca] σ (fun r t => r = none ∧ fS (fun c => c = a) σ t ∧ zn t = zn σ + 1 ∧ zu t = zu σ + w.length ∧ STn t a w ∧ gR true t a 0 = some (.inl (zn σ))) := by
  refine MCI tJ6_init [4, 6] rfl okJ6_init rfl rfl rfl rfl rfl (fun P hP => hP _ _ _ _ ?_)
  show P 4 [some (rf a), some (rf ca)] [rf ca, iv (nI 0), rf ca, rf a] σ
  refine hP _ _ _ _ ?_
  refine grd (b := Nat.ble 1 (kd true σ ca).1 && Nat.ble (kd true σ ca).1 10) (by rw [k1]; rfl) ?_
  show P 6 [some (rf a), some (rf ca)] [.inr (.inr none), iv (nI (kd true σ ca).2), iv (nI 0), rf ca, rf a] σ
  rw [k1]
  refine hP _ _ _ _ ?_
  refine mcall (j_sinit2 G g l d σ a ca w hw h1 hm ha hal ka g2 g3 hca k1 hc hr1 hr2) (fun r s1 h9 => ?_)
  obtain ⟨rfl, h9⟩ := h9
  exact ⟨rfl, h9⟩
theorem j_valueOf (ca : Nat) (w : List Nat) (hw : isLw w) (h1 : 1 ≤ w.length) (hm : w.length ≤ 2000) (hz : 268 ≤ zn σ) (hca : ca < zn σ) (k1 : kd true σ ca = (3, w.length)) (hc : ∀ (i x : Nat), w[i]? = some x → gI σ ca i = nI x) (hr1 : zn σ + 2 ≤ CMAX) (hr2 : zu σ + w.length + 4 ≤ SMAX) :
    MC G g l (d+5) mJ6_valueOf [rf ca] σ (fun r t => r = some (rf (zn σ)) ∧ fS (fun _ => False) σ t ∧ zn t = zn σ + 2 ∧ zu t = zu σ + w.length + 4 ∧ STn t (zn σ) w ∧ gR true t (zn σ) 0 = some (.inl (zn σ + 1))) := by
  refine MC1 tJ6_valueOf [3, 4] rfl okJ6_valueOf rfl rfl rfl rfl (fun P hP => hP _ _ _ _ ?_)
  refine And.intro (show zn σ + 1 ≤ CMAX ∧ zu σ + 4 ≤ SMAX from ⟨by omega, by omega⟩) ?_
  show P 3 [some (rf ca)] [rf ca, rf (zn σ), rf (zn σ)] (nw σ (0, 22) 4)
  generalize hs : nw σ (0, 22) 4 = s
  have F1 : fS (fun _ => False) σ s := by rw [← hs]; exact fS.rf.nw1 hz
  have z1 : zn s = zn σ + 1 := by rw [← hs]; rfl
  have u1 : zu s = zu σ + 4 := by rw [← hs]; rfl
  have n2 : kd true s (zn σ) = (0, 22) := by rw [← hs]; exact kd_nw hz
  have g0 : ∀ k, gI s (zn σ) k = nI 0 := fun k => by rw [← hs, gI_nw, if_pos rfl]; rfl
  refine hP _ _ _ _ ?_
  refine mcall (j_sinit G g l d s (zn σ) ca w hw h1 hm hz (by omega) n2 (g0 2) (g0 3) (by omega) ((F1.2.1 ca hca).trans k1) (fun i x hx => ((F1.1 ca hca (fun z => z) i).1).trans (hc i x hx)) (by omega) (by omega)) (fun r s1 h9 => ?_)
  obtain ⟨rfl, F2, z2, u2, h9, h8⟩ := h9
  show P 4 [some (rf ca)] [rf (zn σ)] s1
  refine hP _ _ _ _ ⟨rfl, F1.tr F2 (fun c h1 h2 => by omega), by omega, by omega, h9, by rw [h8, z1]⟩
end DL2_
