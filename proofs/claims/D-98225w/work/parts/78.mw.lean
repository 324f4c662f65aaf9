section MW
variable (G : CX) (g : GX) (l : Launch) (d : Nat) (σ : AS)
def wk4 (n : Nws) (w : Nat) : List Nat := [Nat_ n w, Nto n w, Nfr n w / 256, Nfr n w % 256]
def imgS (n : Nws) (j : Nat) : List Nat := [Nhr n / 256, Nhr n % 256] ++ (List.range j).map (Nsh n)
def imgK (T : Twn) (n : Nws) (j : Nat) : List Nat := imgS n (Tns T) ++ (List.range j).flatMap (wk4 n)
theorem imgS_len (n : Nws) (j : Nat) : (imgS n j).length = 2 + j := by unfold imgS; rw [List.length_append, List.length_map, List.length_range]; rfl
theorem imgK_len (T : Twn) (n : Nws) : ∀ (j : Nat), (imgK T n j).length = 2 + Tns T + 4 * j
  | 0 => by unfold imgK; rw [List.length_append, imgS_len]; rfl
  | j+1 => by
    have := imgK_len T n j
    unfold imgK at this ⊢
    rw [List.range_succ, List.flatMap_append, List.length_append, List.length_append]
    rw [List.length_append] at this
    have e : (List.flatMap (wk4 n) [j]).length = 4 := rfl
    omega
theorem imgS_succ (n : Nws) (j : Nat) : imgS n (j+1) = imgS n j ++ [Nsh n j] := by
  unfold imgS
  rw [List.range_succ, List.map_append, List.append_assoc]
  rfl
theorem imgK_succ (T : Twn) (n : Nws) (j : Nat) : imgK T n (j+1) = imgK T n j ++ [Nat_ n j] ++ [Nto n j] ++ [Nfr n j / 256] ++ [Nfr n j % 256] := by
  unfold imgK
  rw [List.range_succ, List.flatMap_append]
  simp [wk4]
theorem imgW_eq (T : Twn) (n : Nws) : imgW T n = imgK T n (Tnw T) := rfl
set_option maxHeartbeats 2000000 in
theorem c_image (T : Twn) (n : Nws) (h : TN T n σ) : MC G g l (d+2) mX6_image [tM] σ (fun r t => r = some (iv (nI (imgF T n).length)) ∧ mS [99] [267] σ t ∧ MIm (imgF T n) t) := by
  have hT := h.1
  have h12 := h.1.1
  have hh := h.2.1.1
  refine MC1 tX6_image [21, 34] rfl okX6_image rfl rfl rfl rfl (fun P hP => hP _ _ _ _ ?_)
  have S0 : mS [99] [267] σ (sI σ 200 99 (nI 0)) := mS.rf.f rfl
  have I0 : MIm [] (sI σ 200 99 (nI 0)) := ⟨⟨Nat.zero_le _, fun k x e => by cases e⟩, rfl⟩
  have g0 : ∀ τ, mS [99] [267] σ τ → gI τ 230 0 = nI (Nhr n) := fun τ hS => (h.2.2.2.keep hS rfl).1
  refine And.intro (vin 0 31 rfl rfl) (And.intro (by decide) ?_)
  refine mcall (c_writes G g l d (sI σ 200 99 (nI 0)) [] I0 (by decide) (gI (sI σ 200 99 (nI 0)) 230 0 / nI 256) (Nhr n / 256) (by rw [g0 _ S0, pk_div (by omega) (by omega) (by omega)]) (by omega)) (fun r s1 h9 => ?_)
  obtain ⟨rfl, S1, I1⟩ := h9
  have S1 := S0.tr S1
  refine And.intro (vin 0 31 rfl rfl) (And.intro (by decide) ?_)
  refine mcall (c_writes G g l d s1 [Nhr n / 256] I1 (show 1 < 39 by decide) (gI s1 230 0 - gI s1 230 0 / nI 256 * nI 256) (Nhr n % 256) (by rw [g0 _ S1, pk_rem (by omega) (by omega) (by omega)]) (by omega)) (fun r s2 h9 => ?_)
  obtain ⟨rfl, S2, I2⟩ := h9
  have S2 := S1.tr S2
  have key2 : ∀ (m j : Nat) (τ : AS), j + m = Tnw T → mS [99] [267] σ τ → MIm (imgK T n j) τ → P 34 [some tM, some (iv (nI j))] [] τ := by
    intro m
    induction m with
    | zero =>
      intro j τ hm hS hI
      have hj : j = Tnw T := by omega
      subst hj
      refine hP _ _ _ _ ?_
      refine mcall (c_walkerMany G g l d τ) (fun r s3 h9 => ?_)
      obtain ⟨rfl, rfl⟩ := h9
      have hN := (h.2.2.1.keep hS rfl).2.2.1
      have il := imgK_len T n (Tnw T)
      refine And.intro (fun _ => ?_) (fun q => absurd (by rw [hN]; exact Int32.le_refl _) q)
      refine mcall (c_checked267 G g l d s3 (imgK T n (Tnw T)) hI.1.1 hI.1.2 _ (imgK T n (Tnw T)).length hI.2 (Nat.le_refl _)) (fun r s4 h9 => ?_)
      obtain ⟨rfl, rfl⟩ := h9
      rw [List.take_length]
      refine mcall (c_writes G g l d s4 (imgK T n (Tnw T)) hI (by omega) _ (chk (imgK T n (Tnw T))) rfl (by have := chk_lt (imgK T n (Tnw T)); omega)) (fun r s5 h9 => ?_)
      obtain ⟨rfl, S5, I5⟩ := h9
      refine ⟨congrArg _ (congrArg _ I5.2), hS.tr S5, I5⟩
    | succ m ih =>
      intro j τ hm hS hI
      have hj : j < Tnw T := by omega
      have il := imgK_len T n j
      obtain ⟨w1, w2⟩ := (h.2.1.2.2 j hj)
      have w3 := (hT.2.2 j hj).2
      have p1 : Nat_ n j < 256 := by omega
      have p2 : Nto n j < 256 := by omega
      refine hP _ _ _ _ ?_
      refine mcall (c_walkerMany G g l d τ) (fun r s3 h9 => ?_)
      obtain ⟨rfl, rfl⟩ := h9
      have hN := (h.2.2.1.keep hS rfl).2.2.1
      rw [hN]
      refine And.intro (fun q => absurd q (nI_ge (by omega) (by omega))) (fun _ => ?_)
      have ix : nI 13 + nI 3 * nI j + nI 2 = nI (13 + 3 * j + 2) := ix3 13 3 j 2
      have vx : vp_in (nI 13 + nI 3 * nI j + nI 2) 31 := by rw [ix]; exact vinN (by omega) (by decide)
      have fr : ∀ τ, mS [99] [267] σ τ → gI τ 230 (nI 13 + nI 3 * nI j + nI 2).toNatClampNeg = nI (Nfr n j) := fun τ hS => by rw [ix, clN (by omega)]; exact ((h.2.2.2.keep hS rfl).2.2 j hj).2.2
      refine mcall (c_placeOf G g l d s3 T n (h.keep hS rfl rfl).2.2.2 _ j rfl hj hT) (fun r s4 h9 => ?_)
      obtain ⟨rfl, rfl⟩ := h9
      refine mcall (c_writes G g l d s4 _ hI (by omega) _ (Nat_ n j) rfl p1) (fun r s5 h9 => ?_)
      obtain ⟨rfl, S5, I5⟩ := h9
      have S5 := hS.tr S5
      refine mcall (c_goalOf G g l d s5 T n (h.keep S5 rfl rfl).2.2.2 _ j rfl hj hT) (fun r s6 h9 => ?_)
      obtain ⟨rfl, rfl⟩ := h9
      refine mcall (c_writes G g l d s6 _ I5 (by rw [List.length_append]; show _ + 1 < 39; omega) _ (Nto n j) rfl p2) (fun r s7 h9 => ?_)
      obtain ⟨rfl, S7, I7⟩ := h9
      have S7 := S5.tr S7
      refine And.intro vx (And.intro (by decide) ?_)
      refine mcall (c_writes G g l d s7 _ I7 (by rw [List.length_append, List.length_append]; show _ + 1 + 1 < 39; omega) (gI s7 230 (nI 13 + nI 3 * nI j + nI 2).toNatClampNeg / nI 256) (Nfr n j / 256) (by rw [fr _ S7, pk_div (by omega) (by omega) (by omega)]) (by omega)) (fun r s8 h9 => ?_)
      obtain ⟨rfl, S8, I8⟩ := h9
      have S8 := S7.tr S8
      refine And.intro vx (And.intro (by decide) ?_)
      refine mcall (c_writes G g l d s8 _ I8 (by rw [List.length_append, List.length_append, List.length_append]; show _ + 1 + 1 + 1 < 39; omega) (gI s8 230 (nI 13 + nI 3 * nI j + nI 2).toNatClampNeg - gI s8 230 (nI 13 + nI 3 * nI j + nI 2).toNatClampNeg / nI 256 * nI 256) (Nfr n j % 256) (by rw [fr _ S8, pk_rem (by omega) (by omega) (by omega)]) (by omega)) (fun r s9 h9 => ?_)
      obtain ⟨rfl, S9, I9⟩ := h9
      have S9 := S8.tr S9
      show P 34 [some tM, some (iv (nI j + nI 1))] [] s9
      rw [nI_add]
      rw [← imgK_succ] at I9
      exact ih (j+1) s9 (by omega) S9 I9
  have key1 : ∀ (m j : Nat) (τ : AS), j + m = Tns T → mS [99] [267] σ τ → MIm (imgS n j) τ → P 21 [some tM, some (iv (nI j))] [] τ := by
    intro m
    induction m with
    | zero =>
      intro j τ hm hS hI
      have hj : j = Tns T := by omega
      subst hj
      refine hP _ _ _ _ ?_
      refine mcall (c_streetMany G g l d τ) (fun r s3 h9 => ?_)
      obtain ⟨rfl, rfl⟩ := h9
      have hN := (h.2.2.1.keep hS rfl).2.1
      refine And.intro (fun _ => ?_) (fun q => absurd (by rw [hN]; exact Int32.le_refl _) q)
      refine key2 (Tnw T) 0 s3 (by omega) hS ?_
      have : imgK T n 0 = imgS n (Tns T) := by unfold imgK; exact List.append_nil _
      rw [this]
      exact hI
    | succ m ih =>
      intro j τ hm hS hI
      have hj : j < Tns T := by omega
      have il := imgS_len n j
      have hr := (hT.2.1 j hj).2.2.2.2.1
      have hsh := h.2.1.2.1 j hj
      refine hP _ _ _ _ ?_
      refine mcall (c_streetMany G g l d τ) (fun r s3 h9 => ?_)
      obtain ⟨rfl, rfl⟩ := h9
      have hN := (h.2.2.1.keep hS rfl).2.1
      rw [hN]
      refine And.intro (fun q => absurd q (nI_ge (by omega) (by omega))) (fun _ => ?_)
      refine mcall (c_shiftOf G g l d s3 _ j rfl (by omega)) (fun r s4 h9 => ?_)
      obtain ⟨rfl, rfl⟩ := h9
      refine mcall (c_writes G g l d s4 _ hI (by omega) _ (Nsh n j) ((h.2.2.2.keep hS rfl).2.1 j hj) (by omega)) (fun r s5 h9 => ?_)
      obtain ⟨rfl, S5, I5⟩ := h9
      show P 21 [some tM, some (iv (nI j + nI 1))] [] s5
      rw [nI_add]
      rw [← imgS_succ] at I5
      exact ih (j+1) s5 (by omega) (hS.tr S5) I5
  exact key1 (Tns T) 0 s2 (by omega) S2 I2
end MW
