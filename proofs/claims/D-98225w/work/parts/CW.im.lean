/-! images, in the component: out (199), outs (field 34) -/
def XIm (im : List Nat) (σ : AS) : Prop := (im.length ≤ 39 ∧ ∀ (k x : Nat), im[k]? = some x → gI σ 199 k = bS x ∧ x < 256) ∧ gI σ 0 34 = nI im.length
theorem XIm.push {im : List Nat} {σ : AS} (h : XIm im σ) (hl : im.length < 39) (b : Nat) (hb : b < 256) : XIm (im ++ [b]) (sI (sI σ 0 34 (nI (im.length + 1))) 199 im.length (bS b)) := by
  refine ⟨⟨by rw [List.length_append, List.length_singleton]; omega, fun k x e => ?_⟩, by rw [gI_sI, if_neg (by omega), gI_sI, if_pos ⟨rfl, rfl⟩, List.length_append]; rfl⟩
  rw [gI_sI]
  rcases Nat.lt_trichotomy k im.length with q | q | q
  · rw [List.getElem?_append_left q] at e
    rw [if_neg (by omega), gI_sI, if_neg (by omega)]
    exact h.1.2 k x e
  · subst q
    rw [List.getElem?_append_right (Nat.le_refl _), Nat.sub_self] at e
    have e : some b = some x := e
    cases e
    exact ⟨by rw [if_pos ⟨rfl, rfl⟩], hb⟩
  · rw [List.getElem?_eq_none (by rw [List.length_append, List.length_singleton]; omega)] at e
    cases e
section IM_
variable (G : CX) (g : GX) (l : Launch) (d : Nat) (σ : AS)
theorem x_writes (im : List Nat) (h : XIm im σ) (hl : im.length < 39) (x : Int32) (v : Nat) (hx : x = nI v) (hv : v < 2147483648) : MC G g l (d+1) mX0_writes [tX, iv x] σ (fun r t => r = none ∧ xS [34] [199] σ t ∧ XIm (im ++ [v % 256]) t) := by
  subst hx
  have c8 : (gI σ 0 34).toNatClampNeg = im.length := by rw [h.2, clN (by omega)]
  refine MC0 tX0_writes rfl okX0_writes rfl rfl rfl rfl (fun P => And.intro (show vp_in (gI σ 0 34) 39 by rw [h.2]; exact vinN (by omega) (by decide)) ?_)
  show none = none ∧ xS [34] [199] σ (sI (sI σ 0 34 (gI σ 0 34 + nI 1)) 199 (gI σ 0 34).toNatClampNeg (vp_nar (tyOf 2) ((nI v).toInt8.toInt32))) ∧ XIm (im ++ [v % 256]) (sI (sI σ 0 34 (gI σ 0 34 + nI 1)) 199 (gI σ 0 34).toNatClampNeg (vp_nar (tyOf 2) ((nI v).toInt8.toInt32)))
  rw [c8, nar_b2, nI_low hv, h.2, nI_add]
  exact ⟨rfl, (xS.rf.f rfl).a rfl, h.push hl _ (Nat.mod_lt _ (by omega))⟩
theorem x_octet (im : List Nat) (h : XIm im σ) (x : Int32) : MC G g l (d+1) mX0_octet [tX, iv x] σ (fun r t => r = some (iv (q_octet im x)) ∧ t = σ) := by
  have hl := h.1.1
  obtain ⟨i1, i2, i3⟩ := inR_i (p := x) (n := im.length) (by omega)
  have no : inR x im.length = false → q_octet im x = - nI 1 := fun e => by unfold q_octet; rw [if_neg (by rw [e]; decide)]
  refine MC0 tX0_octet rfl okX0_octet rfl rfl rfl rfl (fun P => And.intro (fun q => ⟨by rw [no (i1 q)], rfl⟩) (fun q => And.intro (fun q2 => ?_) (fun q2 => ?_)))
  · have q2 : x < gI σ 0 34 := q2
    rw [h.2] at q2
    have hi := i3 q (Int32.not_le.mpr q2)
    obtain ⟨k, hk, rfl⟩ := inR_of hi (by omega)
    refine And.intro (show vp_in (nI k) 39 from vinN (by omega) (by decide)) ⟨?_, rfl⟩
    obtain ⟨a1, a2⟩ := h.1.2 k im[k]! (by rw [List.getElem?_eq_getElem hk, getElem!_pos im k hk])
    show some (iv (gI σ 199 (nI k).toNatClampNeg &&& nI 255)) = _
    unfold q_octet
    rw [if_pos hi, clN (by omega), a1, bS_and a2]
  · have q2 : ¬ x < gI σ 0 34 := q2
    rw [h.2] at q2
    exact ⟨by rw [no (i2 (Int32.not_lt.mp q2))], rfl⟩
set_option maxHeartbeats 2000000 in
theorem x_image (T : Twn) (n : Nws) (h : XN T n σ) : MC G g l (d+3) mX0_image [tX] σ (fun r t => r = some (iv (nI (imgF T n).length)) ∧ xS [34] [199] σ t ∧ XIm (imgF T n) t) := by
  have hT := h.1
  have h12 := h.1.1
  have hh := h.2.1.1
  refine MC1 tX0_image [17, 32] rfl okX0_image rfl rfl rfl rfl (fun P hP => hP _ _ _ _ ?_)
  have S0 : xS [34] [199] σ (sI σ 0 34 (nI 0)) := xS.rf.f rfl
  have I0 : XIm [] (sI σ 0 34 (nI 0)) := ⟨⟨Nat.zero_le _, fun k x e => by cases e⟩, rfl⟩
  have g0 : ∀ τ, xS [34] [199] σ τ → gI τ 16 0 = nI (Nhr n) := fun τ hS => (h.2.2.2.xs hS rfl).1
  refine mcall (x_writes G g l (d+1) (sI σ 0 34 (nI 0)) [] I0 (by decide) _ (Nhr n / 256) (show gI (sI σ 0 34 (nI 0)) 16 0 >>> (nI 8 &&& 31) = _ from by rw [g0 _ S0, pk_shrN (by omega) _ 8 rfl]) (by omega)) (fun r s1 h9 => ?_)
  obtain ⟨rfl, S1, I1⟩ := h9
  have S1 := S0.tr S1
  refine mcall (x_writes G g l (d+1) s1 _ I1 (show 1 < 39 by decide) _ (Nhr n) (g0 _ S1) (by omega)) (fun r s2 h9 => ?_)
  obtain ⟨rfl, S2, I2⟩ := h9
  have S2 := S1.tr S2
  have I2 : XIm (imgS n 0) s2 := by
    have e : Nhr n / 256 % 256 = Nhr n / 256 := Nat.mod_eq_of_lt (by omega)
    rw [e] at I2
    exact I2
  have wk : ∀ (m j : Nat) (τ : AS), j + m = Tnw T → xS [34] [199] σ τ → XIm (imgK T n j) τ → P 32 [some tX, some (iv (nI j))] [] τ := by
    intro m
    induction m with
    | zero =>
      intro j τ hm hS hI
      have ej : j = Tnw T := by omega
      subst ej
      have hlen := imgK_len T n (Tnw T)
      refine hP _ _ _ _ ?_
      refine mcall (x_walkerMany G g l d τ T (h.2.2.1.xs hS rfl)) (fun r s3 h9 => ?_)
      obtain ⟨rfl, rfl⟩ := h9
      refine And.intro (fun _ => ?_) (fun q => absurd (Int32.le_refl _) q)
      refine mcall (x_check199 G g l (d+1) s3 _ hI.1.1 hI.1.2 _ (imgK T n (Tnw T)).length hI.2 (Nat.le_refl _)) (fun r s4 h9 => ?_)
      obtain ⟨rfl, rfl⟩ := h9
      have hc : chk ((imgK T n (Tnw T)).take (imgK T n (Tnw T)).length) < 251 := by
        have hk : ∀ (l : List Nat) (c : Nat), c < 251 → l.foldl chk1 c < 251 := by
          intro l
          induction l with
          | nil => intro c hc; exact hc
          | cons b l ih => intro c _; exact ih _ (Nat.mod_lt _ (by omega))
        exact hk _ _ (by omega)
      refine mcall (x_writes G g l (d+1) s4 _ hI (by omega) _ _ rfl (by omega)) (fun r s5 h9 => ?_)
      obtain ⟨rfl, S5, I5⟩ := h9
      have e5 : imgK T n (Tnw T) ++ [chk ((imgK T n (Tnw T)).take (imgK T n (Tnw T)).length) % 256] = imgF T n := by
        rw [Nat.mod_eq_of_lt (by omega), List.take_of_length_le (Nat.le_refl _)]
        rfl
      rw [e5] at I5
      exact ⟨congrArg (fun z => some (iv z)) I5.2, hS.tr S5, I5⟩
    | succ m ih =>
      intro j τ hm hS hI
      have hw : j < Tnw T := by omega
      have hlen := imgK_len T n j
      have cj : (nI j).toNatClampNeg = j := clN (by omega)
      have vj : vp_in (nI j) 6 := vinN (by omega) (by decide)
      have hat := at_np hT h.2.1 hw
      have hfr := (h.2.1.2.2 j hw).2
      have gN : ∀ u, xS [34] [199] σ u → gI u 18 (nI j).toNatClampNeg = nI (Nat_ n j) ∧ gI u 19 (nI j).toNatClampNeg = nI (Nto n j) ∧ gI u 20 (nI j).toNatClampNeg = nI (Nfr n j) := fun u hu => by rw [cj]; exact (h.2.2.2.xs hu rfl).2.2 j hw
      refine hP _ _ _ _ ?_
      refine mcall (x_walkerMany G g l d τ T (h.2.2.1.xs hS rfl)) (fun r s3 h9 => ?_)
      obtain ⟨rfl, rfl⟩ := h9
      refine And.intro (fun q => absurd q (nI_ge (by omega) (by omega))) (fun _ => And.intro vj ?_)
      refine mcall (x_writes G g l (d+1) s3 _ hI (by omega) _ (Nat_ n j) (gN _ hS).1 (by omega)) (fun r s4 h9 => ?_)
      obtain ⟨rfl, S4, I4⟩ := h9
      have S4 := hS.tr S4
      refine And.intro vj ?_
      refine mcall (x_writes G g l (d+1) s4 _ I4 (by simp; omega) _ (Nto n j) (gN _ S4).2.1 (by omega)) (fun r s5 h9 => ?_)
      obtain ⟨rfl, S5, I5⟩ := h9
      have S5 := S4.tr S5
      refine And.intro vj ?_
      refine mcall (x_writes G g l (d+1) s5 _ I5 (by simp; omega) _ (Nfr n j / 256) (show gI s5 20 (nI j).toNatClampNeg >>> (nI 8 &&& 31) = _ from by rw [(gN _ S5).2.2, pk_shrN (by omega) _ 8 rfl]) (by omega)) (fun r s6 h9 => ?_)
      obtain ⟨rfl, S6, I6⟩ := h9
      have S6 := S5.tr S6
      refine And.intro vj ?_
      refine mcall (x_writes G g l (d+1) s6 _ I6 (by simp; omega) _ (Nfr n j) (gN _ S6).2.2 (by omega)) (fun r s7 h9 => ?_)
      obtain ⟨rfl, S7, I7⟩ := h9
      rw [Nat.mod_eq_of_lt (show Nat_ n j < 256 by omega), Nat.mod_eq_of_lt (show Nto n j < 256 by omega), Nat.mod_eq_of_lt (show Nfr n j / 256 < 256 by omega), ← imgK_succ] at I7
      show P 32 [some tX, some (iv (nI j + nI 1))] [] s7
      rw [nI_add]
      exact ih (j+1) s7 (by omega) (S6.tr S7) I7
  have st : ∀ (m j : Nat) (τ : AS), j + m = Tns T → xS [34] [199] σ τ → XIm (imgS n j) τ → P 17 [some tX, some (iv (nI j))] [] τ := by
    intro m
    induction m with
    | zero =>
      intro j τ hm hS hI
      have ej : j = Tns T := by omega
      subst ej
      refine hP _ _ _ _ ?_
      refine mcall (x_streetMany G g l d τ T (h.2.2.1.xs hS rfl)) (fun r s3 h9 => ?_)
      obtain ⟨rfl, rfl⟩ := h9
      refine And.intro (fun _ => ?_) (fun q => absurd (Int32.le_refl _) q)
      exact wk (Tnw T) 0 s3 (by omega) hS (by unfold imgK; simpa using hI)
    | succ m ih =>
      intro j τ hm hS hI
      have hs : j < Tns T := by omega
      have hlen := imgS_len n j
      have hr9 := (hT.2.1 j hs).2.2.2.2.1
      have hsh := h.2.1.2.1 j hs
      refine hP _ _ _ _ ?_
      refine mcall (x_streetMany G g l d τ T (h.2.2.1.xs hS rfl)) (fun r s3 h9 => ?_)
      obtain ⟨rfl, rfl⟩ := h9
      refine And.intro (fun q => absurd q (nI_ge (by omega) (by omega))) (fun _ => And.intro (show vp_in (nI j) 12 from vinN (by omega) (by decide)) ?_)
      refine mcall (x_writes G g l (d+1) s3 _ hI (by omega) _ (Nsh n j) (show gI s3 17 (nI j).toNatClampNeg = _ from by rw [clN (by omega)]; exact (h.2.2.2.xs hS rfl).2.1 j hs) (by omega)) (fun r s4 h9 => ?_)
      obtain ⟨rfl, S4, I4⟩ := h9
      rw [Nat.mod_eq_of_lt (show Nsh n j < 256 by omega), ← imgS_succ] at I4
      show P 17 [some tX, some (iv (nI j + nI 1))] [] s4
      rw [nI_add]
      exact ih (j+1) s4 (by omega) (hS.tr S4) I4
  exact st (Tns T) 0 s2 (by omega) S2 I2
end IM_
