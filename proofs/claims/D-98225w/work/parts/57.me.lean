section ME
variable (G : CX) (g : GX) (l : Launch) (d : Nat) (σ : AS)
theorem c_isStreet (T : Twn) (p : Int32) (h : MTn T σ) (hT : TOK T) : MC G g l (d+2) mX6_isStreet [tM, iv p] σ (fun r s => r = some (iv (bI (inR p (Tns T)))) ∧ s = σ) := by
  refine MC0 tX6_isStreet rfl okX6_isStreet rfl rfl rfl rfl (fun P => ?_)
  refine mcall (c_streetMany G g l d σ) (fun r s' h => ?_)
  obtain ⟨rfl, rfl⟩ := h
  refine mcall (c_isIn G g l d _ _ _ _) (fun r s' h => ?_)
  obtain ⟨rfl, rfl⟩ := h
  exact ⟨nar_bI _, by rw [inR_long (n := Tns T) (by have := hT.1; omega) h.2.1], rfl⟩
theorem c_isWalker (T : Twn) (p : Int32) (h : MTn T σ) (hT : TOK T) : MC G g l (d+2) mX6_isWalker [tM, iv p] σ (fun r s => r = some (iv (bI (inR p (Tnw T)))) ∧ s = σ) := by
  refine MC0 tX6_isWalker rfl okX6_isWalker rfl rfl rfl rfl (fun P => ?_)
  refine mcall (c_walkerMany G g l d σ) (fun r s' h => ?_)
  obtain ⟨rfl, rfl⟩ := h
  refine mcall (c_isIn G g l d _ _ _ _) (fun r s' h => ?_)
  obtain ⟨rfl, rfl⟩ := h
  exact ⟨nar_bI _, by rw [inR_long (n := Tnw T) (by have := hT.1; omega) h.2.2.1], rfl⟩
theorem c_isPlaceT (T : Twn) (p : Int32) (h : MTn T σ) (hT : TOK T) : MC G g l (d+2) mX6_isPlace [tM, iv p] σ (fun r s => r = some (iv (bI (inR p (Tnp T)))) ∧ s = σ) := by
  refine MC0 tX6_isPlace rfl okX6_isPlace rfl rfl rfl rfl (fun P => ?_)
  refine mcall (c_placeMany G g l d σ) (fun r s' h => ?_)
  obtain ⟨rfl, rfl⟩ := h
  refine mcall (c_isIn G g l d _ _ _ _) (fun r s' h => ?_)
  obtain ⟨rfl, rfl⟩ := h
  exact ⟨nar_bI _, by rw [inR_long (n := Tnp T) (by have := hT.1; omega) h.1], rfl⟩
theorem ix3 (a b s c : Nat) : nI a + nI b * nI s + nI c = nI (a + b * s + c) := by rw [pk_mul, nI_add, nI_add]
theorem ix2 (a b s : Nat) : nI a + nI b * nI s = nI (a + b * s) := by rw [pk_mul, nI_add]
theorem c_endOf (x y : Int32) (s w : Nat) (hx : x = nI s) (hy : y = nI w) (hs : s < 12) (hw : w < 5) : MC G g l (d+1) mX6_endOf [tM, iv x, iv y] σ (fun r t => r = some (iv (gI σ 222 (60 + 5 * s + w))) ∧ t = σ) := by
  subst hx; subst hy
  refine MC0 tX6_endOf rfl okX6_endOf rfl rfl rfl rfl (fun P => And.intro ?_ ⟨?_, rfl⟩)
  · show vp_in (nI 60 + nI 5 * nI s + nI w) 120
    rw [ix3]; exact vinN (by omega) (by decide)
  · show some (Sum.inl (gI σ 222 (nI 60 + nI 5 * nI s + nI w).toNatClampNeg)) = _
    rw [ix3, clN (by omega)]
theorem c_takesOf (T : Twn) (h : MTn T σ) (x : Int32) (s : Nat) (hx : x = nI s) (hs : s < Tns T) (hT : TOK T) : MC G g l (d+1) mX6_takesOf [tM, iv x] σ (fun r t => r = some (iv (nI (Ttk T s))) ∧ t = σ) := by
  subst hx
  have := hT.1
  refine MC0 tX6_takesOf rfl okX6_takesOf rfl rfl rfl rfl (fun P => And.intro ?_ ⟨?_, rfl⟩)
  · show vp_in (nI 60 + nI 5 * nI s + nI 2) 120
    rw [ix3]; exact vinN (by omega) (by decide)
  · show some (Sum.inl (gI σ 222 (nI 60 + nI 5 * nI s + nI 2).toNatClampNeg)) = _
    rw [ix3, clN (by omega), (h.2.2.2.1 s hs).2.2.1]
theorem c_roundOf (T : Twn) (h : MTn T σ) (x : Int32) (s : Nat) (hx : x = nI s) (hs : s < Tns T) (hT : TOK T) : MC G g l (d+1) mX6_roundOf [tM, iv x] σ (fun r t => r = some (iv (nI (Trd T s))) ∧ t = σ) := by
  subst hx
  have := hT.1
  refine MC0 tX6_roundOf rfl okX6_roundOf rfl rfl rfl rfl (fun P => And.intro ?_ ⟨?_, rfl⟩)
  · show vp_in (nI 60 + nI 5 * nI s + nI 3) 120
    rw [ix3]; exact vinN (by omega) (by decide)
  · show some (Sum.inl (gI σ 222 (nI 60 + nI 5 * nI s + nI 3).toNatClampNeg)) = _
    rw [ix3, clN (by omega), (h.2.2.2.1 s hs).2.2.2]
theorem c_shiftOf (x : Int32) (s : Nat) (hx : x = nI s) (hs : s < 12) : MC G g l (d+1) mX6_shiftOf [tM, iv x] σ (fun r t => r = some (iv (gI σ 230 (1 + s))) ∧ t = σ) := by
  subst hx
  refine MC0 tX6_shiftOf rfl okX6_shiftOf rfl rfl rfl rfl (fun P => And.intro ?_ ⟨?_, rfl⟩)
  · show vp_in (nI 1 + nI s) 31
    rw [nI_add]; exact vinN (by omega) (by decide)
  · show some (Sum.inl (gI σ 230 (nI 1 + nI s).toNatClampNeg)) = _
    rw [nI_add, clN (by omega)]
theorem c_broadOf (T : Twn) (h : MTn T σ) (x : Int32) (w : Nat) (hx : x = nI w) (hw : w < Tnw T) (hT : TOK T) : MC G g l (d+1) mX6_broadOf [tM, iv x] σ (fun r t => r = some (iv (nI (Tbr T w))) ∧ t = σ) := by
  subst hx
  have := hT.1
  refine MC0 tX6_broadOf rfl okX6_broadOf rfl rfl rfl rfl (fun P => And.intro ?_ ⟨?_, rfl⟩)
  · show vp_in (nI 18 + nI 3 * nI w) 36
    rw [ix2]; exact vinN (by omega) (by decide)
  · show some (Sum.inl (gI σ 223 (nI 18 + nI 3 * nI w).toNatClampNeg)) = _
    rw [ix2, clN (by omega), (h.2.2.2.2.1 w hw).1]
theorem c_placeOf (T : Twn) (n : Nws) (h : MNw T n σ) (x : Int32) (w : Nat) (hx : x = nI w) (hw : w < Tnw T) (hT : TOK T) : MC G g l (d+1) mX6_placeOf [tM, iv x] σ (fun r t => r = some (iv (nI (Nat_ n w))) ∧ t = σ) := by
  subst hx
  have := hT.1
  refine MC0 tX6_placeOf rfl okX6_placeOf rfl rfl rfl rfl (fun P => And.intro ?_ ⟨?_, rfl⟩)
  · show vp_in (nI 13 + nI 3 * nI w) 31
    rw [ix2]; exact vinN (by omega) (by decide)
  · show some (Sum.inl (gI σ 230 (nI 13 + nI 3 * nI w).toNatClampNeg)) = _
    rw [ix2, clN (by omega), (h.2.2 w hw).1]
theorem c_goalOf (T : Twn) (n : Nws) (h : MNw T n σ) (x : Int32) (w : Nat) (hx : x = nI w) (hw : w < Tnw T) (hT : TOK T) : MC G g l (d+1) mX6_goalOf [tM, iv x] σ (fun r t => r = some (iv (nI (Nto n w))) ∧ t = σ) := by
  subst hx
  have := hT.1
  refine MC0 tX6_goalOf rfl okX6_goalOf rfl rfl rfl rfl (fun P => And.intro ?_ ⟨?_, rfl⟩)
  · show vp_in (nI 13 + nI 3 * nI w + nI 1) 31
    rw [ix3]; exact vinN (by omega) (by decide)
  · show some (Sum.inl (gI σ 230 (nI 13 + nI 3 * nI w + nI 1).toNatClampNeg)) = _
    rw [ix3, clN (by omega), (h.2.2 w hw).2.1]
/-- when a walker sets out -/
def Nset (n : Nws) (w : Nat) : Nat := max (Nhr n) (Nfr n w)
theorem c_setsOut (T : Twn) (n : Nws) (h : MNw T n σ) (hN : NOK T n) (x : Int32) (w : Nat) (hx : x = nI w) (hw : w < Tnw T) (hT : TOK T) : MC G g l (d+1) mX6_setsOut [tM, iv x] σ (fun r t => r = some (iv (nI (Nset n w))) ∧ t = σ) := by
  subst hx
  have := hT.1
  have n1 := hN.1
  have n2 := (hN.2.2 w hw).2
  have e : gI σ 230 (nI 13 + nI 3 * nI w + nI 2).toNatClampNeg = nI (Nfr n w) := by rw [ix3, clN (by omega), (h.2.2 w hw).2.2]
  refine MC0 tX6_setsOut rfl okX6_setsOut rfl rfl rfl rfl (fun P => And.intro ?_ (And.intro (vin 0 31 rfl rfl) (And.intro (fun h1 => And.intro (vin 0 31 rfl rfl) ⟨?_, rfl⟩) (fun h1 => ⟨?_, rfl⟩))))
  · show vp_in (nI 13 + nI 3 * nI w + nI 2) 31
    rw [ix3]; exact vinN (by omega) (by decide)
  · have h1 : gI σ 230 (nI 13 + nI 3 * nI w + nI 2).toNatClampNeg ≤ gI σ 230 0 := h1
    rw [e, h.1, nI_leI (by omega) (by omega)] at h1
    show some (Sum.inl (gI σ 230 0)) = _
    rw [h.1, Nset, Nat.max_eq_left h1]
  · have h1 : ¬ gI σ 230 (nI 13 + nI 3 * nI w + nI 2).toNatClampNeg ≤ gI σ 230 0 := h1
    rw [e, h.1, nI_leI (by omega) (by omega)] at h1
    show some (Sum.inl (gI σ 230 (nI 13 + nI 3 * nI w + nI 2).toNatClampNeg)) = _
    rw [e, Nset, Nat.max_eq_right (by omega)]
theorem c_tideOf (T : Twn) (h : MTn T σ) (hT : TOK T) (x y z : Int32) (s hr sh : Nat) (hx : x = nI s) (hy : y = nI hr) (hz : z = nI sh) (hs : s < Tns T) (h1 : hr ≤ 1000000) (h2 : sh ≤ 1000) : MC G g l (d+2) mX6_tideOf [tM, iv x, iv y, iv z] σ (fun r t => r = some (iv (nI ((hr + sh) % Trd T s))) ∧ t = σ) := by
  subst hx; subst hy; subst hz
  have hr9 := (hT.2.1 s hs).2.2.2.2.1
  refine MC0 tX6_tideOf rfl okX6_tideOf rfl rfl rfl rfl (fun P => ?_)
  refine mcall (c_roundOf G g l d σ T h _ s rfl hs hT) (fun r s' h => ?_)
  obtain ⟨rfl, rfl⟩ := h
  refine ⟨nI_ne0 (by omega) (by omega), ?_, rfl⟩
  show some (Sum.inl (nI hr + nI sh - (nI hr + nI sh) / nI (Trd T s) * nI (Trd T s))) = _
  rw [nI_add, pk_rem (by omega) (by omega) (by omega)]
end ME
