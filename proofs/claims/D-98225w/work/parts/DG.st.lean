/-! letters of names -/
theorem namV_nd : ∀ (m : Nat) (w : List Nat) (f : Nat), w.length = m → isLw w → m ≤ f → ndF f (namV w) = m
  | 0, w, f, hl, _, _ => by
    have : w = [] := List.length_eq_zero_iff.mp hl
    subst this
    cases f <;> rfl
  | m+1, w, f, hl, hw, hf => by
    obtain ⟨w', c, rfl⟩ : ∃ w' c, w = w' ++ [c] := by
      rcases List.eq_nil_or_concat w with e | ⟨w', c, e⟩
      · rw [e] at hl; cases hl
      · exact ⟨w', c, by simpa using e⟩
    have hc := hw c (by simp)
    have hl' : w'.length = m := by simpa using hl
    obtain ⟨f', rfl⟩ : ∃ f', f = f' + 1 := ⟨f - 1, by omega⟩
    rw [namV_snoc]
    unfold ndF
    rw [if_neg (by omega), show (27 * namV w' + c - 96) / 27 = namV w' by omega, namV_nd m w' f' hl' (fun x hx => hw x (by simp [hx])) (by omega)]
theorem namV_dig : ∀ (m : Nat) (w : List Nat) (k x : Nat), w.length = m → isLw w → w[k]? = some x → namV w / 27 ^ (m - 1 - k) % 27 = x - 96
  | 0, w, k, x, hl, _, hx => by
    have : w = [] := List.length_eq_zero_iff.mp hl
    subst this
    simp at hx
  | m+1, w, k, x, hl, hw, hx => by
    obtain ⟨w', c, rfl⟩ : ∃ w' c, w = w' ++ [c] := by
      rcases List.eq_nil_or_concat w with e | ⟨w', c, e⟩
      · rw [e] at hl; cases hl
      · exact ⟨w', c, by simpa using e⟩
    have hc := hw c (by simp)
    have hl' : w'.length = m := by simpa using hl
    rw [namV_snoc]
    by_cases hk : k < m
    · rw [List.getElem?_append_left (by omega)] at hx
      have ih := namV_dig m w' k x hl' (fun x hx => hw x (by simp [hx])) hx
      rw [show m + 1 - 1 - k = (m - 1 - k) + 1 by omega, Nat.pow_succ, Nat.mul_comm (27 ^ (m - 1 - k)) 27, ← Nat.div_div_eq_div_mul, show (27 * namV w' + c - 96) / 27 = namV w' by omega]
      exact ih
    · have hk2 : k < (w' ++ [c]).length := (List.getElem?_eq_some_iff.mp hx).1
      have hk3 : k = m := by simp at hk2; omega
      subst hk3
      have : c = x := by
        rw [List.getElem?_append_right (by omega), hl', Nat.sub_self] at hx
        simpa using hx
      subst this
      rw [show k + 1 - 1 - k = 0 by omega, Nat.pow_zero, Nat.div_one]
      omega
theorem letF_nam {w : List Nat} (hw : isLw w) (hl : w.length ≤ 6) (k : Nat) : letF (namV w) k = match w[k]? with
    | some x => x - 96
    | none => 0 := by
  unfold letF
  rw [namV_nd w.length w 7 rfl hw (by omega)]
  cases hx : w[k]? with
  | none =>
    rw [if_neg (by have := List.getElem?_eq_none_iff.mp hx; omega)]
  | some x =>
    rw [if_pos (List.getElem?_eq_some_iff.mp hx).1]
    exact namV_dig w.length w k x rfl hw hx
section DG_
variable (G : CX) (g : GX) (l : Launch) (d : Nat) (σ : AS)
theorem j_coder6 {Q : Nat → Prop} {a : Nat} {w : List Nat} (h : STR Q σ a w) : MC G g l (d+1) mJ6_coder [rf a] σ (fun r t => r = some (iv (nI 0)) ∧ t = σ) := by
  obtain ⟨-, k1, h1, -⟩ := h
  refine MC1 tJ6_coder [6] rfl okJ6_coder rfl rfl rfl rfl (fun P hP => hP _ _ _ _ ?_)
  refine And.intro (fun q => absurd q (by decide)) (fun _ => ?_)
  refine grd (b := isOb (kd true σ a) _) (by rw [k1]; rfl) ?_
  show P 6 [some (rf a)] [iv (gI σ a 1)] σ
  rw [h1]
  exact hP _ _ _ _ ⟨⟨rfl, rfl⟩, rfl, rfl⟩
theorem j_isLatin6 {Q : Nat → Prop} {a : Nat} {w : List Nat} (h : STR Q σ a w) : MC G g l (d+1) mJ6_isLatin1 [rf a] σ (fun r t => r = some (iv (nI 1)) ∧ t = σ) := by
  obtain ⟨-, k1, h1, -⟩ := h
  refine MC1 tJ6_isLatin1 [4] rfl okJ6_isLatin1 rfl rfl rfl rfl (fun P hP => hP _ _ _ _ ?_)
  refine And.intro (fun q => absurd q (by decide)) (fun _ => ?_)
  refine grd (b := isOb (kd true σ a) _) (by rw [k1]; rfl) ?_
  show P 4 [some (rf a)] [iv (gI σ a 1)] σ
  rw [h1]
  exact hP _ _ _ _ (And.intro (fun q => absurd rfl q) (fun _ => ⟨nar1, rfl, rfl⟩))
theorem j_length6 {Q : Nat → Prop} {a : Nat} {w : List Nat} (h : STR Q σ a w) : MC G g l (d+2) mJ6_length [rf a] σ (fun r t => r = some (iv (nI w.length)) ∧ t = σ) := by
  have h0 := h
  obtain ⟨-, k1, h1, b, -, hb, k2, h5⟩ := h
  refine MC1 tJ6_length [2, 4, 5] rfl okJ6_length rfl rfl rfl rfl (fun P hP => hP _ _ _ _ ?_)
  refine grd (b := isOb (kd true σ a) _) (by rw [k1]; rfl) ?_
  show P 2 [some (rf a)] [rw_ (gR true σ a 0)] σ
  rw [hb]
  refine hP _ _ _ _ ?_
  refine grd (b := Nat.ble 1 (kd true σ b).1 && Nat.ble (kd true σ b).1 10) (by rw [k2]; rfl) ?_
  show P 4 [some (rf a)] [rf a, iv (nI (kd true σ b).2)] σ
  rw [k2]
  refine hP _ _ _ _ (sv0 rfl rfl k1 rfl rfl (mcall (j_coder6 G g l d σ h0) (fun r s1 h9 => ?_)))
  obtain ⟨rfl, e9⟩ := h9
  refine hP _ _ _ _ ⟨?_, e9⟩
  show some (iv (nI w.length >>> (nI 0 &&& 31))) = _
  rw [show nI w.length >>> (nI 0 &&& 31) = nI w.length from by rw [show (nI 0 &&& 31 : Int32) = 0 from rfl]; exact Int32.shiftRight_zero]
theorem let_nar2 {k : Nat} (h : k < 26) : NarOK 3 (nI (97 + k)) := by
  have h1 : ∀ k : Fin 26, narrow (tyOf 3) (.int (nI (97 + k.val))) = .int (nI (97 + k.val)) := by decide
  have h2 : ∀ k : Fin 26, fits (tyOf 3) (.int (nI (97 + k.val))) = true := by decide
  exact ⟨h1 ⟨k, h⟩, h2 ⟨k, h⟩⟩
theorem let_nar : ∀ k : Fin 26, (((nI (97 + k.val) &&& nI 255).toUInt32 % 65536).toInt32) = nI (97 + k.val) ∧ vp_nar (tyOf 3) (nI (97 + k.val)) = nI (97 + k.val) := by decide
theorem j_charAt9 (b i x m : Nat) (k2 : kd true σ b = (2, m)) (hi : i < m) (hm : m ≤ 1000) (hx : gI σ b i = nI x) (h1 : 97 ≤ x) (h2 : x ≤ 122) (z : Int32) (hz : z = nI i) : MC G g l (d+3) mJ9_charAt [rf b, iv z] σ (fun r t => r = some (iv (nI x)) ∧ t = σ) := by
  subst hz
  refine MC1 tJ9_charAt [3] rfl okJ9_charAt rfl rfl rfl rfl (fun P hP => hP _ _ _ _ ?_)
  refine grd (b := Nat.ble 1 (kd true σ b).1 && Nat.ble (kd true σ b).1 10) (by rw [k2]; rfl) ?_
  show P 3 [some (rf b), some (iv (nI i))] [iv (nI (kd true σ b).2), iv (nI i)] σ
  rw [k2]
  refine hP _ _ _ _ ?_
  refine mcall (j_check6 G g l d σ i m hi (by omega)) (fun r s2 h9 => ?_)
  obtain ⟨rfl, e9⟩ := h9
  subst e9
  refine grd (b := Nat.beq (kd true s2 b).1 1 || Nat.beq (kd true s2 b).1 2) (by rw [k2]; rfl) ?_
  refine And.intro (show vp_in (nI i) (kd true s2 b).2 from by rw [k2]; exact vinN hi (by show m ≤ 1000000; omega)) ?_
  obtain ⟨k, hk, rfl⟩ : ∃ k, k < 26 ∧ x = 97 + k := ⟨x - 97, by omega, by omega⟩
  have hv : (((gI s2 b (nI i).toNatClampNeg &&& nI 255).toUInt32 % 65536).toInt32) = nI (97 + k) := by
    rw [clN (by omega), hx]
    exact (let_nar ⟨k, hk⟩).1
  show NarOK 3 (((gI s2 b (nI i).toNatClampNeg &&& nI 255).toUInt32 % 65536).toInt32) ∧ some (iv (((gI s2 b (nI i).toNatClampNeg &&& nI 255).toUInt32 % 65536).toInt32)) = some (iv (nI (97 + k))) ∧ s2 = s2
  rw [hv]
  exact ⟨let_nar2 hk, rfl, rfl⟩
theorem j_charAt6 {Q : Nat → Prop} {a : Nat} {w : List Nat} (h : STR Q σ a w) (hw : isLw w) (hl : w.length ≤ 1000) (z : Int32) (i x : Nat) (hz : z = nI i) (hx : w[i]? = some x) : MC G g l (d+4) mJ6_charAt [rf a, iv z] σ (fun r t => r = some (iv (nI x)) ∧ t = σ) := by
  have h0 := h
  obtain ⟨-, k1, h1, b, -, hb, k2, h5⟩ := h
  have hxl := hw x (List.mem_of_getElem? hx)
  refine MC1 tJ6_charAt [1, 5, 6] rfl okJ6_charAt rfl rfl rfl rfl (fun P hP => hP _ _ _ _ ?_)
  refine hP _ _ _ _ (sv0 rfl rfl k1 rfl rfl (mcall (j_isLatin6 G g l (d+2) σ h0) (fun r s1 h9 => ?_)))
  obtain ⟨rfl, e9⟩ := h9
  subst e9
  refine And.intro (fun q => absurd q (by decide)) (fun _ => ?_)
  refine grd (b := isOb (kd true s1 a) _) (by rw [k1]; rfl) ?_
  show P 5 [some (rf a), some (iv z)] [rw_ (gR true s1 a 0)] s1
  rw [hb]
  refine hP _ _ _ _ ?_
  show P 6 [some (rf a), some (iv z)] [iv z, rf b] s1
  refine hP _ _ _ _ ?_
  refine mcall (j_charAt9 G g l d s1 b i x w.length k2 (List.getElem?_eq_some_iff.mp hx).1 hl (h5 i x hx) hxl.1 hxl.2 z hz) (fun r s2 h9 => ?_)
  obtain ⟨rfl, e9⟩ := h9
  obtain ⟨k, hk, rfl⟩ : ∃ k, k < 26 ∧ x = 97 + k := ⟨x - 97, by omega, by omega⟩
  exact ⟨let_nar2 hk, rfl, e9⟩
theorem x7_letter {Q : Nat → Prop} {c v cl : Nat} (hk : kd true σ c = (0, cl)) (hcl : cl = 7 ∨ cl = 8 ∨ cl = 14) (h : NMD Q σ c v) (z : Int32) (k : Nat) (hz : z = nI k) (hk6 : k < 1000) : MC G g l (d+5) mX7_letter [rf c, iv z] σ (fun r t => r = some (iv (nI (letF v k))) ∧ t = σ) := by
  subst hz
  obtain ⟨-, a, w, ha, hs, hw, hl1, hl6, rfl⟩ := h
  have ks := hs.2.1
  have e := letF_nam hw hl6 k
  refine MC1 tX7_letter [3, 8] rfl okX7_letter rfl rfl rfl rfl (fun P hP => hP _ _ _ _ ?_)
  have hob : isOb (kd true σ c) [7, 8, 14] = true := by rcases hcl with rfl | rfl | rfl <;> (rw [hk]; rfl)
  refine grd (b := isOb (kd true σ c) _) (by rcases hcl with rfl | rfl | rfl <;> (rw [hk]; rfl)) ?_
  show P 3 [some (rf c), some (iv (nI k))] [rw_ (gR true σ c 0), iv (nI k)] σ
  refine hP _ _ _ _ (sv0 rfl ha ks rfl rfl (mcall (j_length6 G g l (d+2) σ hs) (fun r s1 h9 => ?_)))
  obtain ⟨rfl, e9⟩ := h9
  subst e9
  refine And.intro (fun q => ?_) (fun q => ?_)
  · have q := (nI_leI (by omega) (by omega)).mp q
    rw [List.getElem?_eq_none_iff.mpr q] at e
    exact ⟨by rw [e], rfl⟩
  · have q : ¬ nI w.length ≤ nI k := q
    rw [nI_leI (by omega) (by omega)] at q
    obtain ⟨x, hx⟩ : ∃ x, w[k]? = some x := ⟨_, List.getElem?_eq_getElem (by omega)⟩
    have hxl := hw x (List.mem_of_getElem? hx)
    rw [hx] at e
    refine grd (b := isOb (kd true s1 c) _) (by rcases hcl with rfl | rfl | rfl <;> (rw [hk]; rfl)) ?_
    show P 8 [some (rf c), some (iv (nI k))] [iv (nI k), rw_ (gR true s1 c 0)] s1
    refine hP _ _ _ _ (sv1 rfl ha ks rfl rfl (mcall (j_charAt6 G g l d s1 hs hw (by omega) _ k x rfl hx) (fun r s2 h9 => ?_)))
    obtain ⟨rfl, e9⟩ := h9
    refine ⟨?_, e9⟩
    rw [e]
    show some (iv (nI x - nI 97 + nI 1)) = some (iv (nI (x - 96)))
    rw [nI_s1 _ _ hxl.1, nI_add, show x - 97 + 1 = x - 96 by omega]
set_option maxHeartbeats 1000000 in
theorem x_letter (T : Twn) (h : XTn T σ) (hT : TOK T) (a b c : Int32) : MC G g l (d+6) mX0_letter [tX, iv a, iv b, iv c] σ (fun r t => r = some (iv (q_letter T a b c)) ∧ t = σ) := by
  have h12 := hT.1
  have hX := h
  obtain ⟨t, ht, lp, ls, lw, ps, ss, ws, ⟨p, k⟩, ⟨r0, r1, r2⟩, ⟨l0, l1, l2⟩, hl, h0, h1, h2⟩ := h
  refine MC1 tX0_letter [12, 18, 25, 29, 30, 33, 35, 37, 40, 42] rfl okX0_letter rfl rfl rfl rfl (fun P hP => ?_)
  have no : okLet T a b c = false → P 12 [some tX, some (iv a), some (iv b), some (iv c), none] [] σ := by
    intro e
    refine hP _ _ _ _ ⟨?_, rfl⟩
    unfold q_letter
    rw [if_neg (by rw [e]; decide)]
  refine hP _ _ _ _ ?_
  refine mcall (x_btw G g l (d+4) σ c _ _ 0 5 rfl rfl (by decide) (by decide)) (fun r s1 h9 => ?_)
  obtain ⟨rfl, e9⟩ := h9
  subst e9
  cases hc : btw c 0 5 with
  | false => exact And.intro (fun _ => no (by unfold okLet; rw [hc, Bool.and_false, Bool.and_false])) (fun q => absurd rfl q)
  | true =>
  refine And.intro (fun q => absurd q (by decide)) (fun _ => ?_)
  refine mcall (x_btw G g l (d+4) s1 a _ _ 0 2 rfl rfl (by decide) (by decide)) (fun r s2 h9 => ?_)
  obtain ⟨rfl, e9⟩ := h9
  subst e9
  cases ha : btw a 0 2 with
  | false => exact And.intro (fun _ => no (by unfold okLet; rw [ha]; rfl)) (fun q => absurd rfl q)
  | true =>
  refine And.intro (fun q => absurd q (by decide)) (fun _ => ?_)
  have eok : okLet T a b c = inR b (Tct T a.toNatClampNeg) := by unfold okLet; rw [ha, hc, Bool.true_and, Bool.and_true]
  obtain ⟨ka, hka1, hka2, rfl⟩ := btw_of ha (by decide)
  obtain ⟨kc, hkc1, hkc2, rfl⟩ := btw_of hc (by decide)
  have cka : (nI ka).toNatClampNeg = ka := clN (by omega)
  have ckc : (nI kc).toNatClampNeg = kc := clN (by omega)
  rw [cka] at eok
  refine And.intro (fun q => ?_) (fun q => ?_)
  rotate_left
  · have q : ¬ nI 0 ≤ b := q
    refine no ?_
    rw [eok]
    apply decide_eq_false
    intro z
    exact q (by rw [Int32.le_iff_toInt_le]; exact z.1)
  have hb0 : nI 0 ≤ b := q
  have hb0 : 0 ≤ b.toInt := by rw [Int32.le_iff_toInt_le] at hb0; exact hb0
  have key : ∀ (r : AR) (lst : Nat) (es : List Nat), r = some (.inl lst) → LST (Qz (zn s2)) s2 lst es → es.length = Tct T ka → (∀ (i x : Nat), es[i]? = some x → (∃ cl, kd true s2 x = (0, cl) ∧ (cl = 7 ∨ cl = 8 ∨ cl = 14)) ∧ NMD (Qz (zn s2)) s2 x (Tnm T ka i)) → P 30 [some tX, some (iv (nI ka)), some (iv b), some (iv (nI kc)), none] [rw_ r] s2 := by
    intro r lst es hr hL hlen hes
    subst hr
    have hct : Tct T ka ≤ 12 := by unfold Tct; split; omega; split <;> omega
    refine hP _ _ _ _ ?_
    show P 33 [some tX, some (iv (nI ka)), some (iv b), some (iv (nI kc)), some (rf lst)] [rf lst, iv b] s2
    refine hP _ _ _ _ (si0 rfl rfl hL.kd rfl rfl (mcall (l_size G g l (d+4) s2 hL) (fun r s3 h9 => ?_)))
    obtain ⟨rfl, e9⟩ := h9
    subst e9
    cases hi : inR b (Tct T ka) with
    | false =>
      refine And.intro (fun _ => hP _ _ _ _ ⟨?_, rfl⟩) (fun q => absurd ?_ q)
      · unfold q_letter
        rw [if_neg (by rw [eok, hi]; decide)]
      · show nI es.length ≤ b
        have hi := of_decide_eq_false hi
        rw [Int32.le_iff_toInt_le, nI_toInt (by omega)]
        omega
    | true =>
      obtain ⟨kb, hkb, rfl⟩ := inR_of hi (by omega)
      obtain ⟨x, hx⟩ : ∃ x, es[kb]? = some x := ⟨_, List.getElem?_eq_getElem (by omega)⟩
      obtain ⟨⟨cl, hcl, hcl2⟩, hN⟩ := hes kb x hx
      have eq : q_letter T (nI ka) (nI kb) (nI kc) = nI (letF (Tnm T ka kb) kc) := by
        unfold q_letter
        rw [if_pos (by rw [eok, hi]), cka, ckc, clN (by omega)]
      refine And.intro (fun q => absurd q (by rw [hlen]; exact nI_ge hkb (by omega))) (fun _ => ?_)
      show P 35 [some tX, some (iv (nI ka)), some (iv (nI kb)), some (iv (nI kc)), some (rf lst)] [] s3
      refine hP _ _ _ _ ?_
      show P 37 [some tX, some (iv (nI ka)), some (iv (nI kb)), some (iv (nI kc)), some (rf lst)] [iv (nI kb), rf lst] s3
      refine hP _ _ _ _ (si1 rfl rfl hL.kd rfl rfl (mcall (l_get G g l (d+2) s3 hL _ kb x rfl hx) (fun r s4 h9 => ?_)))
      obtain ⟨rfl, e9⟩ := h9
      subst e9
      have fin : ∀ (r : Option AV) (t : AS), r = some (iv (nI (letF (Tnm T ka kb) kc))) ∧ t = s4 → r = some (iv (q_letter T (nI ka) (nI kb) (nI kc))) ∧ t = s4 := fun r t h => ⟨by rw [h.1, eq], h.2⟩
      rcases hcl2 with rfl | rfl | rfl
      · refine grd (b := List.contains _ (kcode (kd true s4 x))) (by rw [hcl]; rfl) ?_
        show P 40 [some tX, some (iv (nI ka)), some (iv (nI kb)), some (iv (nI kc)), some (rf lst)] [iv (nI kc), rf x] s4
        refine hP _ _ _ _ (sv1 rfl rfl hcl rfl rfl (mcall (x7_letter G g l d s4 hcl (by simp) hN _ kc rfl (by omega)) (fun r s5 h9 => ?_)))
        obtain ⟨rfl, e9⟩ := h9
        exact fin _ _ ⟨rfl, e9⟩
      · refine grd (b := List.contains _ (kcode (kd true s4 x))) (by rw [hcl]; rfl) ?_
        show P 40 [some tX, some (iv (nI ka)), some (iv (nI kb)), some (iv (nI kc)), some (rf lst)] [iv (nI kc), rf x] s4
        refine hP _ _ _ _ (sv1 rfl rfl hcl rfl rfl (mcall (x7_letter G g l d s4 hcl (by simp) hN _ kc rfl (by omega)) (fun r s5 h9 => ?_)))
        obtain ⟨rfl, e9⟩ := h9
        exact fin _ _ ⟨rfl, e9⟩
      · refine grd (b := List.contains _ (kcode (kd true s4 x))) (by rw [hcl]; rfl) ?_
        show P 40 [some tX, some (iv (nI ka)), some (iv (nI kb)), some (iv (nI kc)), some (rf lst)] [iv (nI kc), rf x] s4
        refine hP _ _ _ _ (sv1 rfl rfl hcl rfl rfl (mcall (x7_letter G g l d s4 hcl (by simp) hN _ kc rfl (by omega)) (fun r s5 h9 => ?_)))
        obtain ⟨rfl, e9⟩ := h9
        exact fin _ _ ⟨rfl, e9⟩
  have h3 : ka = 0 ∨ ka = 1 ∨ ka = 2 := by omega
  rcases h3 with rfl | rfl | rfl
  · refine And.intro (fun q => absurd rfl q) (fun _ => ?_)
    show P 18 [some tX, some (iv (nI 0)), some (iv b), some (iv (nI kc)), none] [rw_ (gR true s2 0 0)] s2
    refine hP _ _ _ _ (sgf rfl ht k rfl ?_)
    exact key _ lp ps r0 l0 hl.1 (fun i x hx => ⟨⟨7, (h0 i x hx).1, by simp⟩, (h0 i x hx).2⟩)
  · refine And.intro (fun _ => And.intro (fun q => absurd rfl q) (fun _ => ?_)) (fun q => absurd q (by decide))
    show P 25 [some tX, some (iv (nI 1)), some (iv b), some (iv (nI kc)), none] [rw_ (gR true s2 0 0)] s2
    refine hP _ _ _ _ (sgf rfl ht k rfl ?_)
    exact key _ ls ss r1 l1 hl.2.1 (fun i x hx => ⟨⟨8, (h1 i x hx).1, by simp⟩, (h1 i x hx).2.2.2.2.2.1⟩)
  · refine And.intro (fun _ => And.intro (fun _ => ?_) (fun q => absurd q (by decide))) (fun q => absurd q (by decide))
    show P 29 [some tX, some (iv (nI 2)), some (iv b), some (iv (nI kc)), none] [rw_ (gR true s2 0 0)] s2
    refine hP _ _ _ _ (sgf rfl ht k rfl ?_)
    exact key _ lw ws r2 l2 hl.2.2 (fun i x hx => ⟨⟨14, (h2 i x hx).1, by simp⟩, (h2 i x hx).2.2.2.2⟩)
end DG_
