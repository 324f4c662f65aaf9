/-! THE TOWN OF THE COMPONENT -/
def isLw (w : List Nat) : Prop := ∀ x ∈ w, 97 ≤ x ∧ x ≤ 122
def STR (P : Nat → Prop) (σ : AS) (a : Nat) (w : List Nat) : Prop := P a ∧ kd true σ a = (0, 22) ∧ gI σ a 1 = nI 0 ∧ ∃ b, P b ∧ gR true σ a 0 = some (.inl b) ∧ kd true σ b = (2, w.length) ∧ ∀ (i x : Nat), w[i]? = some x → gI σ b i = nI x
theorem STR.keep {P P' : Nat → Prop} {σ t : AS} {a : Nat} {w : List Nat} (h : STR P σ a w) (hA : agr P σ t) (hp : ∀ a, P a → P' a) : STR P' t a w := by
  obtain ⟨p1, h1, h2, b, p2, h3, h4, h5⟩ := h
  exact ⟨hp _ p1, (hA a p1).2.trans h1, ((hA a p1).1 1).1.trans h2, b, hp _ p2, ((hA a p1).1 0).2.2.trans h3, (hA b p2).2.trans h4, fun i x hx => ((hA b p2).1 i).1.trans (h5 i x hx)⟩
/-- what is named at c is named by the number v -/
def NMD (P : Nat → Prop) (σ : AS) (c v : Nat) : Prop := P c ∧ ∃ a w, gR true σ c 0 = some (.inl a) ∧ STR P σ a w ∧ isLw w ∧ 1 ≤ w.length ∧ w.length ≤ 6 ∧ namV w = v
theorem NMD.keep {P P' : Nat → Prop} {σ t : AS} {c v : Nat} (h : NMD P σ c v) (hA : agr P σ t) (hp : ∀ a, P a → P' a) : NMD P' t c v := by
  obtain ⟨p1, a, w, h1, h2, h3⟩ := h
  exact ⟨hp _ p1, a, w, ((hA c p1).1 0).2.2.trans h1, h2.keep hA hp, h3⟩
def XPL (P : Nat → Prop) (σ : AS) (T : Twn) (k c : Nat) : Prop := kd true σ c = (0, 7) ∧ NMD P σ c (Tnm T 0 k)
def XST (P : Nat → Prop) (σ : AS) (T : Twn) (s c : Nat) : Prop := kd true σ c = (0, 8) ∧ gI σ c 1 = nI (Tfr T s) ∧ gI σ c 2 = nI (Tto T s) ∧ gI σ c 3 = nI (Ttk T s) ∧ gI σ c 4 = nI (Trd T s) ∧ NMD P σ c (Tnm T 1 s) ∧ ∃ v, gR true σ c 6 = some (.inl v) ∧ VAL P false σ 40 v (Tcd T s)
def XWK (P : Nat → Prop) (σ : AS) (T : Twn) (w c : Nat) : Prop := kd true σ c = (0, 14) ∧ gI σ c 1 = nI (Tbr T w) ∧ gI σ c 2 = nI (Twa T w) ∧ gI σ c 3 = nI (Twb T w) ∧ NMD P σ c (Tnm T 2 w)
theorem XPL.keep {P P' : Nat → Prop} {σ t : AS} {T : Twn} {s c : Nat} (h : XPL P σ T s c) (hA : agr P σ t) (hp : ∀ a, P a → P' a) : XPL P' t T s c :=
  ⟨(hA c h.2.1).2.trans h.1, h.2.keep hA hp⟩
theorem XST.keep {P P' : Nat → Prop} {σ t : AS} {T : Twn} {s c : Nat} (h : XST P σ T s c) (hA : agr P σ t) (hp : ∀ a, P a → P' a) : XST P' t T s c := by
  obtain ⟨k, h1, h2, h3, h4, h5, v, h6, h7⟩ := h
  have ea := hA c h5.1
  exact ⟨ea.2.trans k, (ea.1 1).1.trans h1, (ea.1 2).1.trans h2, (ea.1 3).1.trans h3, (ea.1 4).1.trans h4, h5.keep hA hp, v, (ea.1 6).2.2.trans h6, VAL.keep hA hp _ _ _ h7⟩
theorem XWK.keep {P P' : Nat → Prop} {σ t : AS} {T : Twn} {s c : Nat} (h : XWK P σ T s c) (hA : agr P σ t) (hp : ∀ a, P a → P' a) : XWK P' t T s c := by
  obtain ⟨k, h1, h2, h3, h4⟩ := h
  have ea := hA c h4.1
  exact ⟨ea.2.trans k, (ea.1 1).1.trans h1, (ea.1 2).1.trans h2, (ea.1 3).1.trans h3, h4.keep hA hp⟩
/-- the Town object at t -/
def TWc (P : Nat → Prop) (σ : AS) (t : Nat) (T : Twn) : Prop := ∃ lp ls lw ps ss ws, (P t ∧ kd true σ t = (0, 1)) ∧ (gR true σ t 0 = some (.inl lp) ∧ gR true σ t 1 = some (.inl ls) ∧ gR true σ t 2 = some (.inl lw)) ∧ (LST P σ lp ps ∧ LST P σ ls ss ∧ LST P σ lw ws) ∧ (ps.length = Tnp T ∧ ss.length = Tns T ∧ ws.length = Tnw T) ∧ (∀ (k c : Nat), ps[k]? = some c → XPL P σ T k c) ∧ (∀ (k c : Nat), ss[k]? = some c → XST P σ T k c) ∧ (∀ (k c : Nat), ws[k]? = some c → XWK P σ T k c)
theorem TWc.keep {P P' : Nat → Prop} {σ u : AS} {t : Nat} {T : Twn} (h : TWc P σ t T) (hA : agr P σ u) (hp : ∀ a, P a → P' a) : TWc P' u t T := by
  obtain ⟨lp, ls, lw, ps, ss, ws, ⟨p, k⟩, ⟨r0, r1, r2⟩, ⟨l0, l1, l2⟩, hl, h0, h1, h2⟩ := h
  have ea := hA t p
  exact ⟨lp, ls, lw, ps, ss, ws, ⟨hp _ p, ea.2.trans k⟩, ⟨(ea.1 0).2.2.trans r0, (ea.1 1).2.2.trans r1, (ea.1 2).2.2.trans r2⟩, ⟨l0.keep hA hp, l1.keep hA hp, l2.keep hA hp⟩, hl, fun k c hc => (h0 k c hc).keep hA hp, fun k c hc => (h1 k c hc).keep hA hp, fun k c hc => (h2 k c hc).keep hA hp⟩
def XTn (T : Twn) (σ : AS) : Prop := ∃ t, gR true σ 0 0 = some (.inl t) ∧ TWc (Qz (zn σ)) σ t T
theorem XTn.ks {fs ids : List Nat} {T : Twn} {σ t : AS} (h : XTn T σ) (hS : kS fs ids σ t) (hi : ids_q ids = true) (hf : fs.contains 0 = false) (hz : 0 < zn σ) : XTn T t := by
  obtain ⟨c, h1, h2⟩ := h
  refine ⟨c, ?_, h2.keep (hS.agr hi) (fun a ha => ha.mono hS.2.2.1)⟩
  rw [(hS.1 0 0 hz (fun q => by
    have := List.all_eq_true.mp hi 0 q
    cases this) (fun _ q => by simp at hf; exact hf q)).2.2]
  exact h1
theorem XTn.xs {fs ids : List Nat} {T : Twn} {σ t : AS} (h : XTn T σ) (hS : xS fs ids σ t) (hi : ids_q ids = true) : XTn T t := by
  obtain ⟨c, h1, h2⟩ := h
  refine ⟨c, ?_, h2.keep (hS.agr hi _) (fun a ha => ha.mono hS.k.2.2.1)⟩
  rw [gR_of hS.2]
  exact h1
def XNw (T : Twn) (n : Nws) (σ : AS) : Prop := gI σ 16 0 = nI (Nhr n) ∧ (∀ s, s < Tns T → gI σ 17 s = nI (Nsh n s)) ∧ (∀ w, w < Tnw T → gI σ 18 w = nI (Nat_ n w) ∧ gI σ 19 w = nI (Nto n w) ∧ gI σ 20 w = nI (Nfr n w))
theorem XNw.xs {fs ids : List Nat} {T : Twn} {n : Nws} {σ s : AS} (h : XNw T n σ) (hS : xS fs ids σ s) (h9 : ([16, 17, 18, 19, 20].all (fun a => !ids.contains a)) = true) : XNw T n s := by
  have hk : ∀ a, a ∈ [16, 17, 18, 19, 20] → ids.contains a = false := fun a ha => by
    have := List.all_eq_true.mp h9 a ha
    simpa using this
  have e0 : ∀ k, gI s 16 k = gI σ 16 k := hS.ia 16 (hk _ (by simp)) rfl
  have e1 : ∀ k, gI s 17 k = gI σ 17 k := hS.ia 17 (hk _ (by simp)) rfl
  have e2 : ∀ k, gI s 18 k = gI σ 18 k := hS.ia 18 (hk _ (by simp)) rfl
  have e3 : ∀ k, gI s 19 k = gI σ 19 k := hS.ia 19 (hk _ (by simp)) rfl
  have e4 : ∀ k, gI s 20 k = gI σ 20 k := hS.ia 20 (hk _ (by simp)) rfl
  unfold XNw at h ⊢
  simp only [e0, e1, e2, e3, e4]
  exact h
def XN (T : Twn) (n : Nws) (σ : AS) : Prop := TOK T ∧ NOK T n ∧ XTn T σ ∧ XNw T n σ
theorem XN.xs {fs ids : List Nat} {T : Twn} {n : Nws} {σ s : AS} (h : XN T n σ) (hS : xS fs ids σ s) (hi : ids_q ids = true) (h9 : ([16, 17, 18, 19, 20].all (fun a => !ids.contains a)) = true) : XN T n s := ⟨h.1, h.2.1, h.2.2.1.xs hS hi, h.2.2.2.xs hS h9⟩
section TN_
variable (G : CX) (g : GX) (l : Launch) (d : Nat) (σ : AS)
theorem x1_street {P : Nat → Prop} {t : Nat} {T : Twn} (h : TWc P σ t T) (x : Int32) (s : Nat) (hx : x = nI s) (hs : s < Tns T) : MC G g l (d+4) mX1_street [rf t, iv x] σ (fun r u => u = σ ∧ ∃ c, r = some (rf c) ∧ XST P σ T s c) := by
  obtain ⟨lp, ls, lw, ps, ss, ws, ⟨p, k⟩, ⟨r0, r1, r2⟩, ⟨l0, l1, l2⟩, hl, h0, h1, h2⟩ := h
  obtain ⟨c, hc⟩ : ∃ c, ss[s]? = some c := ⟨_, List.getElem?_eq_getElem (by omega)⟩
  have hX := h1 s c hc
  refine MC1 tX1_street [3] rfl okX1_street rfl rfl rfl rfl (fun P hP => ?_)
  refine hP _ _ _ _ ?_
  refine grd (b := isOb (kd true σ t) _) (by rw [k]; rfl) ?_
  show P 3 [some (rf t), some (iv x)] [iv x, rw_ (gR true σ t 1)] σ
  refine hP _ _ _ _ ?_
  refine si1 rfl r1 l1.kd rfl rfl (mcall (l_get G g l d σ l1 x s c hx hc) (fun r' s1 h9 => ?_))
  obtain ⟨rfl, e9⟩ := h9
  subst e9
  refine grd (b := List.contains _ (kcode (kd true s1 c))) (by rw [hX.1]; rfl) ?_
  exact ⟨rfl, c, rfl, hX⟩
theorem x1_walker {P : Nat → Prop} {t : Nat} {T : Twn} (h : TWc P σ t T) (x : Int32) (s : Nat) (hx : x = nI s) (hs : s < Tnw T) : MC G g l (d+4) mX1_walker [rf t, iv x] σ (fun r u => u = σ ∧ ∃ c, r = some (rf c) ∧ XWK P σ T s c) := by
  obtain ⟨lp, ls, lw, ps, ss, ws, ⟨p, k⟩, ⟨r0, r1, r2⟩, ⟨l0, l1, l2⟩, hl, h0, h1, h2⟩ := h
  obtain ⟨c, hc⟩ : ∃ c, ws[s]? = some c := ⟨_, List.getElem?_eq_getElem (by omega)⟩
  have hX := h2 s c hc
  refine MC1 tX1_walker [3] rfl okX1_walker rfl rfl rfl rfl (fun P hP => ?_)
  refine hP _ _ _ _ ?_
  refine grd (b := isOb (kd true σ t) _) (by rw [k]; rfl) ?_
  show P 3 [some (rf t), some (iv x)] [iv x, rw_ (gR true σ t 2)] σ
  refine hP _ _ _ _ ?_
  refine si1 rfl r2 l2.kd rfl rfl (mcall (l_get G g l d σ l2 x s c hx hc) (fun r' s1 h9 => ?_))
  obtain ⟨rfl, e9⟩ := h9
  subst e9
  refine grd (b := List.contains _ (kcode (kd true s1 c))) (by rw [hX.1]; rfl) ?_
  exact ⟨rfl, c, rfl, hX⟩
theorem x_placeMany (T : Twn) (h : XTn T σ) : MC G g l (d+2) mX0_placeMany [tX] σ (fun r t => r = some (iv (nI (Tnp T))) ∧ t = σ) := by
  obtain ⟨t, ht, lp, ls, lw, ps, ss, ws, ⟨p, k⟩, ⟨r0, r1, r2⟩, ⟨l0, l1, l2⟩, hl, h0, h1, h2⟩ := h
  refine MC1 tX0_placeMany [2, 3] rfl okX0_placeMany rfl rfl rfl rfl (fun P hP => ?_)
  refine hP _ _ _ _ (hP _ _ _ _ (sgf rfl ht k rfl (hP _ _ _ _ (si0 rfl r0 l0.kd rfl rfl (mcall (l_size G g l d σ l0) (fun r' s1 h9 => ?_))))))
  obtain ⟨rfl, e9⟩ := h9
  exact ⟨by rw [hl.1], e9⟩
theorem x_streetMany (T : Twn) (h : XTn T σ) : MC G g l (d+2) mX0_streetMany [tX] σ (fun r t => r = some (iv (nI (Tns T))) ∧ t = σ) := by
  obtain ⟨t, ht, lp, ls, lw, ps, ss, ws, ⟨p, k⟩, ⟨r0, r1, r2⟩, ⟨l0, l1, l2⟩, hl, h0, h1, h2⟩ := h
  refine MC1 tX0_streetMany [2, 3] rfl okX0_streetMany rfl rfl rfl rfl (fun P hP => ?_)
  refine hP _ _ _ _ (hP _ _ _ _ (sgf rfl ht k rfl (hP _ _ _ _ (si0 rfl r1 l1.kd rfl rfl (mcall (l_size G g l d σ l1) (fun r' s1 h9 => ?_))))))
  obtain ⟨rfl, e9⟩ := h9
  exact ⟨by rw [hl.2.1], e9⟩
theorem x_walkerMany (T : Twn) (h : XTn T σ) : MC G g l (d+2) mX0_walkerMany [tX] σ (fun r t => r = some (iv (nI (Tnw T))) ∧ t = σ) := by
  obtain ⟨t, ht, lp, ls, lw, ps, ss, ws, ⟨p, k⟩, ⟨r0, r1, r2⟩, ⟨l0, l1, l2⟩, hl, h0, h1, h2⟩ := h
  refine MC1 tX0_walkerMany [2, 3] rfl okX0_walkerMany rfl rfl rfl rfl (fun P hP => ?_)
  refine hP _ _ _ _ (hP _ _ _ _ (sgf rfl ht k rfl (hP _ _ _ _ (si0 rfl r2 l2.kd rfl rfl (mcall (l_size G g l d σ l2) (fun r' s1 h9 => ?_))))))
  obtain ⟨rfl, e9⟩ := h9
  exact ⟨by rw [hl.2.2], e9⟩
end TN_
/-! the component's way to a street, to a walker -/
theorem at_street {G : CX} {g : GX} {l : Launch} {d : Nat} {tab : List Ent} {labs : List Nat} {P : KN} {N : Option AV → AS → Prop} {X : AS → Prop} {n i : Nat} {ls : LSt} {st : List AV} {σ : AS} {q pc ln : Nat} (T : Twn) {s : Nat} {x : Int32} {r : AR} (he : getE tab i = some (.invokevirtual q, pc, ln, [1], [(1, 234)], none)) (h : XTn T σ) (hr : r = gR true σ 0 0) (hx : x = nI s) (hs : s < Tns T) (hc : Nat.ble (scat st) 8 = true)
    (k : ∀ c, XST (Qz (zn σ)) σ T s c → nxt g (callP G (true, g) l (d+5)) tab labs P N X n (i+1) ls (rf c :: st) σ) : run (true, g) (callP G (true, g) l (d+5)) tab labs P N X (n+1) i ls (iv x :: rw_ r :: st) σ := by
  obtain ⟨t, ht, h⟩ := h
  have hk : kd true σ t = (0, 1) := by obtain ⟨lp, ls, lw, ps, ss, ws, ⟨p, k⟩, -⟩ := h; exact k
  refine sv1 he (hr.trans ht) hk rfl hc (mcall (x1_street G g l d σ h x s hx hs) (fun r' s1 h9 => ?_))
  obtain ⟨e9, c, rfl, hc⟩ := h9
  subst e9
  exact k c hc
theorem at_walker {G : CX} {g : GX} {l : Launch} {d : Nat} {tab : List Ent} {labs : List Nat} {P : KN} {N : Option AV → AS → Prop} {X : AS → Prop} {n i : Nat} {ls : LSt} {st : List AV} {σ : AS} {q pc ln : Nat} (T : Twn) {s : Nat} {x : Int32} {r : AR} (he : getE tab i = some (.invokevirtual q, pc, ln, [1], [(1, 235)], none)) (h : XTn T σ) (hr : r = gR true σ 0 0) (hx : x = nI s) (hs : s < Tnw T) (hc : Nat.ble (scat st) 8 = true)
    (k : ∀ c, XWK (Qz (zn σ)) σ T s c → nxt g (callP G (true, g) l (d+5)) tab labs P N X n (i+1) ls (rf c :: st) σ) : run (true, g) (callP G (true, g) l (d+5)) tab labs P N X (n+1) i ls (iv x :: rw_ r :: st) σ := by
  obtain ⟨t, ht, h⟩ := h
  have hk : kd true σ t = (0, 1) := by obtain ⟨lp, ls, lw, ps, ss, ws, ⟨p, k⟩, -⟩ := h; exact k
  refine sv1 he (hr.trans ht) hk rfl hc (mcall (x1_walker G g l d σ h x s hx hs) (fun r' s1 h9 => ?_))
  obtain ⟨e9, c, rfl, hc⟩ := h9
  subst e9
  exact k c hc
