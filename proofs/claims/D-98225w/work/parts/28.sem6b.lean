/-! rows for the step: fields' values, old objects, switches, calls -/
theorem fvI_eq {own : String} {idx cn f t : Nat} {fin : Bool} {G : CX} {ph : Bool} {σ : AS} {a : Nat} {v : Int32} (hf : FL own idx cn f t fin) (h6 : t ≠ 6) (h7 : t ≠ 7) {j : Nat} (hj : j < nfc cn) : fval G ph (sI σ a f v) a j (ftc cn j) = if j = f then .int v else fval G ph σ a j (ftc cn j) := by
  obtain ⟨C, T, N, ty, ⟨c1, c2, c3, -⟩, hk, ht, -⟩ := hf
  by_cases e : j = f
  · subst e
    rw [(c3 j hk).1, ht, if_pos rfl]
    unfold fval
    split
    · exact absurd rfl h6
    · exact absurd rfl h7
    · simp [gI_sI]
  · rw [if_neg e]
    unfold fval
    split
    · rfl
    · rfl
    · simp [gI_sI, e]
theorem fvL_eq {own : String} {idx cn f : Nat} {fin : Bool} {G : CX} {ph : Bool} {σ : AS} {a : Nat} {v : Int64} (hf : FL own idx cn f 6 fin) {j : Nat} (hj : j < nfc cn) : fval G ph (sL σ a f v) a j (ftc cn j) = if j = f then .long v else fval G ph σ a j (ftc cn j) := by
  obtain ⟨C, T, N, ty, ⟨c1, c2, c3, -⟩, hk, ht, -⟩ := hf
  by_cases e : j = f
  · subst e
    rw [(c3 j hk).1, ht, if_pos rfl]
    simp [fval, gL_sL]
  · rw [if_neg e]
    unfold fval
    split
    · simp [gL_sL, e]
    · rfl
    · rfl
theorem fvR_eq {own : String} {idx cn f : Nat} {fin : Bool} {G : CX} {ph : Bool} {σ : AS} {a : Nat} {v : AR} (hf : FL own idx cn f 7 fin) (hx : (!ph || (fixR a f).isNone) = true) {j : Nat} (hj : j < nfc cn) : fval G ph (sR σ a f v) a j (ftc cn j) = if j = f then rv G v else fval G ph σ a j (ftc cn j) := by
  obtain ⟨C, T, N, ty, ⟨c1, c2, c3, -⟩, hk, ht, -⟩ := hf
  by_cases e : j = f
  · subst e
    rw [(c3 j hk).1, ht, if_pos rfl]
    simp [fval, gR_sR_at hx]
  · rw [if_neg e]
    unfold fval
    split
    · rfl
    · simp [gR_sR_at hx, e]
    · rfl
theorem FL.pos {own : String} {idx cn f t : Nat} {fin : Bool} (hf : FL own idx cn f t fin) : 1 ≤ t := by
  obtain ⟨C, T, N, ty, ⟨c1, c2, c3, -⟩, hk, ht, -⟩ := hf
  rw [← ht]
  exact (c3 f hk).2
theorem narTy {t : Nat} {v : Int32} (h1 : 1 ≤ t) (h5 : t < 5) (hn : NarOK t v) : ∀ ty : FieldType, tcd ty = t → narrow ty (.int v) = .int v ∧ fits ty (.int v) = true := by
  intro ty ht
  match t, h1, h5, hn with
  | 1, _, _, hn => cases ty <;> first | exact hn | (simp [tcd] at ht)
  | 2, _, _, hn => cases ty <;> first | exact hn | (simp [tcd] at ht)
  | 3, _, _, hn => cases ty <;> first | exact hn | (simp [tcd] at ht)
  | 4, _, _, hn => cases ty <;> first | exact hn | (simp [tcd] at ht)
theorem refTy {G : CX} {r : AR} : ∀ ty : FieldType, tcd ty = 7 → narrow ty (rv G r) = rv G r ∧ fits ty (rv G r) = true := by
  intro ty ht
  cases r with
  | none => cases ty <;> first | exact ⟨rfl, rfl⟩ | (simp [tcd] at ht)
  | some a => cases ty <;> first | exact ⟨rfl, rfl⟩ | (simp [tcd] at ht)
section Snd
variable {p : Program} {l : Launch} {e : Env} {R : Room} {s : State} {m : MethodId} {args : Array Value} {below : List Frame} {meth : Method} {c : Code} {H : Heap} {locs : List Loc} {cells slots : Nat} {Q : State → Prop}
variable {G : CX} {g : GM} {own : String} {cc : ByteArray} {nL d : Nat} {s0 σ : AS} {ini : Bool} {pc : Nat} {ls : Array Slot} {rest : List Value}
theorem am_getO (F : WFx p l R s m args meth c G g own cc nL d s0 ini) (hH : Hold G g.1 σ H) {j cn idx f t : Nat} (hkd : oK g.2.1 j = (0, cn)) (hf : FLg own idx cn f t) (hdg : decode cc pc = .ok (.getfield idx, 3))
    (kk : W p l e R s m args below meth c H locs cells slots Q (F0 m (pc + 3) ls (oval G g j f t :: rest))) : W p l e R s m args below meth c H locs cells slots Q (F0 m pc ls (.ref (G.2.2.2.2.2 j) :: rest)) := by
  obtain ⟨hx, hb, -, hown, hts, ⟨hK, hnw, hold, hext⟩, -⟩ := F
  obtain ⟨C, T, N, ty, ⟨c1, c2, c3, c4, c5, c6⟩, hk, ht, hlk⟩ := hf
  obtain ⟨h1, cell, q1, q2, q3, q4, -⟩ := hold j (by rw [hkd]; exact Nat.zero_le _)
  rw [hkd] at q4
  obtain ⟨q4, q5⟩ := q4 rfl
  obtain ⟨hS, hfc, kC, hkC, hkind⟩ := hK.1 cn _ c1
  obtain ⟨cf, kf, fi, fd, hi, hsl⟩ := hS f hk
  have hv : cell.slots[fd.slot]? = some (oval G g j f t) := by
    have := q5 f (by rw [c2]; exact hk)
    rw [hsl]
    rw [(c3 f hk).1, ht] at this
    exact this
  have hc : H[G.2.2.2.2.2 j]? = some cell := by rw [hH.2.2.1 _ h1]; exact q1
  rcases hlk with hlk | ⟨host, hlk⟩ | ⟨ref, hlk, hsm⟩
  · exact W.getf hx hb hown (hts _ hlk) hi (u_facts hfc hkC (u_lays hts c4 hk) hi).1 hc q3 hv rfl rfl hdg kk
  rotate_left
  · exact W.getf hx hb hown (hts _ hlk) (u_same (hts _ hsm) _ hi) (u_facts hfc hkC (u_lays hts c4 hk) hi).1 hc q3 hv rfl rfl hdg kk
  · exact va_Wgetf hx hb hown (va_Nw.use rfl (hnw _ hlk rfl)) hi (u_facts hfc hkC (u_lays hts c4 hk) hi).1 hc q3 hv rfl rfl hdg kk
/-- an old array's cell -/
theorem am_arrO (F : WFx p l R s m args meth c G g own cc nL d s0 ini) (hH : Hold G g.1 σ H) {j : Nat} (h1 : 1 ≤ (oK g.2.1 j).1) (h2 : (oK g.2.1 j).1 ≤ 10) : ∃ cell : Cell, H[G.2.2.2.2.2 j]? = some cell ∧ s.isArrayOf cell (tyOf (oK g.2.1 j).1) ∧ cell.vm ≠ .unknown ∧ ((oK g.2.1 j).2 ≤ cell.slots.size ∧ cell.slots.size.toInt32 = nI (oK g.2.1 j).2) ∧ ∀ k, k < (oK g.2.1 j).2 → cell.slots[k]? = some (oval G g j k (oK g.2.1 j).1) := by
  obtain ⟨-, -, -, -, -, ⟨-, -, hold, -⟩, -⟩ := F
  obtain ⟨q0, cell, q1, q2, q3, -, q5⟩ := hold j h2
  obtain ⟨q5, q6, q7⟩ := q5 h1
  exact ⟨cell, by rw [hH.2.2.1 _ q0]; exact q1, q5, q3, q6, q7⟩
theorem am_fr1 (F : WFx p l R s m args meth c G g own cc nL d s0 ini) (hd : 1 ≤ d) : 1 ≤ R.frames := Nat.le_trans hd F.2.2.2.2.2.2.2.1.2.2.1
theorem am_lc1 (F : WFx p l R s m args meth c G g own cc nL d s0 ini) (hd : 1 ≤ d) {st : List AV} (h : scat st ≤ 8) {x : List Value} : 2 * (F0 m pc ls x).monitorRoom + ((st.map (cv G)).map fun v => v.category).sum + 12 ≤ R.locals := by
  have h1 := F.2.2.2.2.2.2.2.1.2.2.2
  rw [cv_scat]
  show 2 * 0 + scat st + 12 ≤ R.locals
  omega
theorem am_cb (F : WFx p l R s m args meth c G g own cc nL (d+1) s0 ini) {σ : AS} (hH : Hold G g.1 σ H) {mL : Nat} (hm : mL ≤ 40) (hle : zn s0 ≤ zn σ ∧ zu s0 ≤ zu σ) : ((rmA d σ).frames + 1 ≤ R.frames ∧ 8 + (mL + 11) + (rmA d σ).locals ≤ R.locals) ∧ (zn σ - zn s0) + (CMAX - zn σ) ≤ R.cells ∧ (zu σ - zu s0) + (SMAX - zu σ) ≤ R.slots := by
  obtain ⟨-, -, -, -, -, -, -, ⟨r1, r2, r3, r4⟩, -⟩ := F
  have hm := hH.2.2.2.2.1
  refine ⟨⟨r3, ?_⟩, ?_, ?_⟩
  · show 8 + (mL + 11) + 64 * d ≤ R.locals
    omega
  · rw [r1]; omega
  · rw [r2]; omega
/-- a call, whatever its kind -/
theorem am_call {la : Array Slot} {as st2 : List AV} {stv : List Value} {mi : Nat} {N' : Option AV → AS → Prop} {X' : AS → Prop} (F : WFx p l R s m args meth c G g own cc nL d s0 ini) (hH : Hold G g.1 σ H) (hL : ∀ q ∈ locs, G.2.2.1 ≤ q.base)
    (h : callP G g l d mi as σ N' X')
    (mk : ∀ (d' : Nat) (q : MI) (N1 : Option AV → AS → Prop) (X1 : AS → Prop), d = d' + 1 → getM MT mi = some q → CTm G g l d' q as σ N1 X1 → (∀ mL : Nat, mL ≤ 40 → ((rmA d' σ).frames + 1 ≤ R.frames ∧ 8 + (mL + 11) + (rmA d' σ).locals ≤ R.locals)) → ((zn σ - zn s0) + (CMAX - zn σ) ≤ R.cells ∧ (zu σ - zu s0) + (SMAX - zu σ) ≤ R.slots) →
      vx_Run p l e R s m args below meth c H locs (zn σ - zn s0) (zu σ - zu s0) (CMAX - zn σ) (SMAX - zu σ) (F0 m pc la stv) (st2.map (cv G)) (QcA G g N1 (as.map (cv G)).toArray) (XcA G g X1) (fun q => G.2.2.1 ≤ q))
    (kn : ∀ (r : Option AV) (σ' : AS) (H' : Heap) (locs' : List Loc) (cells' slots' : Nat), N' r σ' → Hold G g.1 σ' H' → (∀ q ∈ locs', G.2.2.1 ≤ q.base) → W p l e R s m args below meth c H' locs' cells' slots' Q (F0 m (pc + 3) la (r.toList.map (cv G) ++ st2.map (cv G))))
    (kx : ∀ (σ' : AS) (H' : Heap) (locs' : List Loc) (cells' slots' : Nat), X' σ' → Hold G g.1 σ' H' → (∀ q ∈ locs', G.2.2.1 ≤ q.base) → vx_W p l e R s m args below meth c H' locs' cells' slots' Q (F0 m pc la (st2.map (cv G))) (G.2.2.1 + 10)) :
    W p l e R s m args below meth c H locs cells slots Q (F0 m pc la stv) := by
  cases d with
  | zero => exact h.elim
  | succ d =>
    obtain ⟨N1, X1, ⟨q, hq, hct⟩, hn, hxx⟩ := h
    refine Wt F hH fun hle => ?_
    exact am_run (N' := N1) (X' := X1) (a := (as.map (cv G)).toArray) (rest := st2.map (cv G)) (mc := CMAX - zn σ) (ms := SMAX - zu σ) (mk d q N1 X1 rfl hq hct (fun mL hm => (am_cb F hH hm hle).1) (am_cb F hH (mL := 0) (by omega) hle).2) hL (fun r σ' H' locs' c3 c4 h1 h2 h3 => kn r σ' H' locs' c3 c4 (hn r σ' h1) h2 h3) (fun σ' H' locs' c3 c4 h1 h2 h3 => kx σ' H' locs' c3 c4 (hxx σ' h1) h2 h3)
theorem am_nest (F : WFx p l R s m args meth c G g own cc nL d s0 ini) {w : Cond} (hw : w ∈ lw_tbl) (hm : mvW w = true) : va_Nw w s := F.2.2.2.2.2.1.2.1 w hw hm
theorem am_static {la : Array Slot} {lsA : LSt} {st as st2 : List AV} {n mi idx : Nat} {N' : Option AV → AS → Prop} {X' : AS → Prop} (F : WFx p l R s m args meth c G g own cc nL d s0 ini) (hH : Hold G g.1 σ H) (hL : ∀ q ∈ locs, G.2.2.1 ≤ q.base) (hl : LsOK G la nL lsA) (hres : SOK own idx n mi) (hpop : popN n [] st = some (as, st2)) (hsc : scat st2 ≤ 8) (hdec : decode cc pc = .ok (.invokestatic idx, 3))
    (h : callP G g l d mi as σ N' X')
    (kn : ∀ (r : Option AV) (σ' : AS) (H' : Heap) (locs' : List Loc) (cells' slots' : Nat), N' r σ' → Hold G g.1 σ' H' → (∀ q ∈ locs', G.2.2.1 ≤ q.base) → W p l e R s m args below meth c H' locs' cells' slots' Q (F0 m (pc + 3) la (r.toList.map (cv G) ++ st2.map (cv G))))
    (kx : ∀ (σ' : AS) (H' : Heap) (locs' : List Loc) (cells' slots' : Nat), X' σ' → Hold G g.1 σ' H' → (∀ q ∈ locs', G.2.2.1 ≤ q.base) → vx_W p l e R s m args below meth c H' locs' cells' slots' Q (F0 m pc la (st2.map (cv G))) (G.2.2.1 + 10)) :
    W p l e R s m args below meth c H locs cells slots Q (F0 m pc la (st.map (cv G))) := by
  obtain ⟨xs, e1, e2, e3⟩ := popN_spec n [] st as st2 hpop
  have e1 : as = xs.reverse := by rw [e1, List.append_nil]
  subst e1
  subst e2
  have hTF := F.2.2.2.2.2.1
  have hts := F.2.2.2.2.1
  refine am_call F hH hL h (fun d' q N1 X1 hd hq hct cb cb2 => ?_) kn kx
  rcases hres with ⟨y, cy, mL, ry, hq2, hgood, hpar, hmL⟩ | ⟨y, cy, mL, ry, host, hq2, w1, w2, w3, w4, hpar, hmL⟩
  · have hqq : q = (y, cy, mL, ry, []) := Option.some.inj (hq.symm.trans hq2)
    subst hqq
    exact vx_runS (Ts := lw_all) (As := xs.reverse.map (cv G)) ⟨F.1, F.2.1, F.2.2.1, F.2.2.2.1, F.2.2.2.2.1⟩ hct (va_cwS n hts hgood rfl rfl rfl hpar (cb mL hmL)) ⟨PcA_blind _ _ _ _, fun U hU hW => ⟨rfl, by rw [hU]; exact hH, hTF.moved hW⟩⟩ rfl (by simp [e3]) hl.1 (by simp) (lv_room (by rw [cv_scat]; exact hsc)) hdec cb2
  · have hqq : q = (y, cy, mL, ry, []) := Option.some.inj (hq.symm.trans hq2)
    subst hqq
    exact vx_runSN (Ts := lw_all) (As := xs.reverse.map (cv G)) ⟨F.1, F.2.1, F.2.2.1, F.2.2.2.1, F.2.2.2.2.1⟩ hct ⟨va_cnB n hts (lw_meth w4) rfl rfl rfl (am_nest F w1 rfl) (hts _ w3) hpar (cb mL hmL), hts _ w2, trivial⟩ ⟨PcA_blind _ _ _ _, fun U hU hW => ⟨rfl, by rw [hU]; exact hH, hTF.moved hW⟩⟩ rfl (by simp [e3]) hl.1 (by simp) (lv_room (by rw [cv_scat]; exact hsc)) hdec cb2
theorem am_recv (F : WFx p l R s m args meth c G g own cc nL d s0 ini) (hH : Hold G g.1 σ H) {a cn : Nat} (hkd : kd g.1 σ a = (0, cn)) {C : String} {T : u_T} {N9 : Nat} (hcl : clT[cn]? = some (C, T, N9)) : ∃ cell : Cell, H[G.2.2.1 + a]? = some cell ∧ cell.vm.isStatics = false ∧ s.vm.findClass C = some cell.cls := by
  obtain ⟨r9, hr9, cell, v1, v2, v3, -⟩ := am_obj hH hkd
  have hfc := (F.2.2.2.2.2.1.1.1 _ _ hcl).2.1
  exact ⟨cell, v1, by rw [v3]; rfl, by rw [v2]; exact hfc⟩
theorem am_recvO (F : WFx p l R s m args meth c G g own cc nL d s0 ini) (hH : Hold G g.1 σ H) {a cn : Nat} (hkd : oK g.2.1 a = (0, cn)) {C : String} {T : u_T} {N9 : Nat} (hcl : clT[cn]? = some (C, T, N9)) : ∃ cell : Cell, H[G.2.2.2.2.2 a]? = some cell ∧ cell.vm.isStatics = false ∧ s.vm.findClass C = some cell.cls := by
  obtain ⟨v0, cell, v1, v3, -, v2, -⟩ := F.2.2.2.2.2.1.2.2.1 a (by rw [hkd]; exact Nat.zero_le _)
  rw [hkd] at v2
  have v2 := (v2 rfl).1
  have hfc := (F.2.2.2.2.2.1.1.1 _ _ hcl).2.1
  exact ⟨cell, by rw [hH.2.2.1 _ v0]; exact v1, v3, by rw [v2]; exact hfc⟩
theorem am_init {la : Array Slot} {lsA : LSt} {st as st2 : List AV} {a n mi idx : Nat} {prs : List (Nat × Nat)} {N' : Option AV → AS → Prop} {X' : AS → Prop} (F : WFx p l R s m args meth c G g own cc nL d s0 ini) (hH : Hold G g.1 σ H) (hL : ∀ q ∈ locs, G.2.2.1 ≤ q.base) (hl : LsOK G la nL lsA) (hres : IOK own idx n mi prs) (hsup : supOK (kd g.1 σ a) prs = true) (hpop : popN n [] st = some (as, .inr (.inr (some (.inl a))) :: st2)) (hsc : scat st2 ≤ 8) (hdec : decode cc pc = .ok (.invokespecial idx, 3))
    (h : callP G g l d mi (.inr (.inr (some (.inl a))) :: as) σ N' X')
    (kn : ∀ (r : Option AV) (σ' : AS) (H' : Heap) (locs' : List Loc) (cells' slots' : Nat), N' r σ' → Hold G g.1 σ' H' → (∀ q ∈ locs', G.2.2.1 ≤ q.base) → W p l e R s m args below meth c H' locs' cells' slots' Q (F0 m (pc + 3) la (r.toList.map (cv G) ++ st2.map (cv G))))
    (kx : ∀ (σ' : AS) (H' : Heap) (locs' : List Loc) (cells' slots' : Nat), X' σ' → Hold G g.1 σ' H' → (∀ q ∈ locs', G.2.2.1 ≤ q.base) → vx_W p l e R s m args below meth c H' locs' cells' slots' Q (F0 m pc la (st2.map (cv G))) (G.2.2.1 + 10)) :
    W p l e R s m args below meth c H locs cells slots Q (F0 m pc la (st.map (cv G))) := by
  obtain ⟨xs, e1, e2, e3⟩ := popN_spec n [] st as _ hpop
  have e1 : as = xs.reverse := by rw [e1, List.append_nil]
  subst e1
  subst e2
  have hTF := F.2.2.2.2.2.1
  have hts := F.2.2.2.2.1
  refine am_call F hH hL h (fun d' q N1 X1 hd hq hct cb cb2 => ?_) kn kx
  rcases hres with ⟨y, cy, mL, hq2, w1, w2, w3, w4, hy, hpar, hmL⟩ | ⟨y, cy, mL, host, hq2, w1, w2, w3, w4, hy, hpar, hmL⟩ | ⟨y, cy, mL, ry, hq2, hgood, hy, hpar, hmL, hcs⟩
  · have hqq : q = (y, cy, mL, none, []) := Option.some.inj (hq.symm.trans hq2)
    subst hqq
    exact vx_runI (Ts := lw_all) (b := G.2.2.1 + a) (As := xs.reverse.map (cv G)) ⟨F.1, F.2.1, F.2.2.1, F.2.2.2.1, F.2.2.2.2.1⟩ hct (cwI n hts (lw_meth w1) rfl rfl rfl (hts _ w2) (hts _ w3) (hts _ w4) hy hpar (cb mL hmL)) ⟨PcA_blind _ _ _ _, fun U hU hW => ⟨rfl, by rw [hU]; exact hH, hTF.moved hW⟩⟩ rfl (by simp [e3]) hl.1 (by simp; rfl) (lv_room (by rw [cv_scat]; exact hsc)) hdec cb2
  · have hqq : q = (y, cy, mL, none, []) := Option.some.inj (hq.symm.trans hq2)
    subst hqq
    exact vx_runIN (Ts := lw_all) (b := G.2.2.1 + a) (As := xs.reverse.map (cv G)) ⟨F.1, F.2.1, F.2.2.1, F.2.2.2.1, F.2.2.2.2.1⟩ hct ⟨va_cnB n hts (lw_meth w1) rfl rfl rfl (am_nest F w3 rfl) (hts _ w2) hpar (cb mL hmL), hy, hts _ w4⟩ ⟨PcA_blind _ _ _ _, fun U hU hW => ⟨rfl, by rw [hU]; exact hH, hTF.moved hW⟩⟩ rfl (by simp [e3]) hl.1 (by simp; rfl) (lv_room (by rw [cv_scat]; exact hsc)) hdec cb2
  · have hqq : q = (y, cy, mL, ry, []) := Option.some.inj (hq.symm.trans hq2)
    subst hqq
    subst hcs
    obtain ⟨cn, hkd, hcn⟩ := isOb_spec (q := kd g.1 σ a) (cs := [21]) hsup
    have hcn : cn = 21 := by simpa using hcn
    subst hcn
    have hcl : clT[21]? = some (RJ15, TJ15, 4) := rfl
    exact vx_runSU (Ts := lw_all) (C := RJ15) (b := G.2.2.1 + a) (As := xs.reverse.map (cv G)) ((hTF.1.1 _ _ hcl).2) ⟨F.1, F.2.1, F.2.2.1, F.2.2.2.1, F.2.2.2.2.1⟩ hct (va_cwSU n hts hgood rfl rfl rfl ⟨hy, hpar⟩ (cb mL hmL)) ⟨PcA_blind _ _ _ _, am_recv F hH hkd hcl, fun U hU hW => ⟨rfl, by rw [hU]; exact hH, hTF.moved hW⟩⟩ rfl (by simp [e3]) hl.1 (by simp; rfl) (lv_room (by rw [cv_scat]; exact hsc)) hdec cb2
theorem am_virtG {la : Array Slot} {lsA : LSt} {xs st2 : List AV} {v0 : AV} {b cn n mi idx : Nat} {prs : List (Nat × Nat)} {N' : Option AV → AS → Prop} {X' : AS → Prop} (F : WFx p l R s m args meth c G g own cc nL d s0 ini) (hH : Hold G g.1 σ H) (hL : ∀ q ∈ locs, G.2.2.1 ≤ q.base) (hl : LsOK G la nL lsA) (hres : VOKs own idx n prs) (hv0 : cv G v0 = .ref b) (hrecv : ∀ (C : String) (T : u_T) (N9 : Nat), clT[cn]? = some (C, T, N9) → ∃ cell : Cell, H[b]? = some cell ∧ cell.vm.isStatics = false ∧ s.vm.findClass C = some cell.cls) (hlk : lkp prs cn = some mi) (e3 : xs.length = n) (hsc : scat st2 ≤ 8) (hdec : decode cc pc = .ok (.invokevirtual idx, 3))
    (h : callP G g l d mi (v0 :: xs.reverse) σ N' X')
    (kn : ∀ (r : Option AV) (σ' : AS) (H' : Heap) (locs' : List Loc) (cells' slots' : Nat), N' r σ' → Hold G g.1 σ' H' → (∀ q ∈ locs', G.2.2.1 ≤ q.base) → W p l e R s m args below meth c H' locs' cells' slots' Q (F0 m (pc + 3) la (r.toList.map (cv G) ++ st2.map (cv G))))
    (kx : ∀ (σ' : AS) (H' : Heap) (locs' : List Loc) (cells' slots' : Nat), X' σ' → Hold G g.1 σ' H' → (∀ q ∈ locs', G.2.2.1 ≤ q.base) → vx_W p l e R s m args below meth c H' locs' cells' slots' Q (F0 m pc la (st2.map (cv G))) (G.2.2.1 + 10)) :
    W p l e R s m args below meth c H locs cells slots Q (F0 m pc la ((xs ++ v0 :: st2).map (cv G))) := by
  have hTF := F.2.2.2.2.2.1
  have hts := F.2.2.2.2.1
  have hst : (xs ++ v0 :: st2).map (cv G) = (xs.reverse.map (cv G)).reverse ++ .ref b :: st2.map (cv G) := by simp [hv0]
  have has : (v0 :: xs.reverse).map (cv G) = .ref b :: xs.reverse.map (cv G) := by simp [hv0]
  refine am_call F hH hL h (fun d' q N1 X1 hd hq hct cb cb2 => ?_) kn kx
  rw [has]
  have hpc : ∀ U : State, U.heap = H → s.WarmedH U.vm → PcA G g (v0 :: xs.reverse) σ (Value.ref b :: xs.reverse.map (cv G)).toArray U := fun U hU hW => ⟨by rw [has], by rw [hU]; exact hH, hTF.moved hW⟩
  rcases VOKs_lkp prs _ _ hres hlk with ⟨C, T, N9, y, cy, mL, ry, hcl, hq2, hgood, hyC, hpar, hmL⟩ | ⟨C, T, N9, y, cy, mL, ry, host, hcl, hq2, w1, w2, w3, w4, w5, hpar, hmL⟩ | ⟨C, T, N9, x, y, cy, mL, ry, owner, hcl, hq2, hgood, hor, hpar, hmL⟩ | ⟨C, T, N9, y, cy, mL, ry, h0, hr, hcl, hq2, hgood, hyC, hpar, hmL⟩ | ⟨hc21, y, cy, mL, ry, hq2, w1, w2, hpv, w5, w6, w7, hpar, hmL⟩
  · have hqq : q = (y, cy, mL, ry, []) := Option.some.inj (hq.symm.trans hq2)
    subst hqq
    exact vx_runV (Ts := lw_all) (C := C) (b := b) (As := xs.reverse.map (cv G)) ⟨F.1, F.2.1, F.2.2.1, F.2.2.2.1, F.2.2.2.2.1⟩ hct (cwV n hts hgood rfl rfl rfl ⟨hyC, hpar⟩ (cb mL hmL)) ⟨PcA_blind _ _ _ _, hrecv C T N9 hcl, hpc⟩ rfl (by simp [e3]) hl.1 hst (lv_room (by rw [cv_scat]; exact hsc)) hdec cb2
  · have hqq : q = (y, cy, mL, ry, []) := Option.some.inj (hq.symm.trans hq2)
    subst hqq
    exact vx_runVN (Ts := lw_all) (C := C) (b := b) (As := xs.reverse.map (cv G)) ⟨F.1, F.2.1, F.2.2.1, F.2.2.2.1, F.2.2.2.2.1⟩ hct ⟨va_cnB n hts (lw_meth w5) rfl rfl rfl (am_nest F w1 rfl) (hts _ w4) hpar (cb mL hmL), hts _ w2, hts _ w3⟩ ⟨PcA_blind _ _ _ _, hrecv C T N9 hcl, hpc⟩ rfl (by simp [e3]) hl.1 hst (lv_room (by rw [cv_scat]; exact hsc)) hdec cb2
  · have hqq : q = (y, cy, mL, ry, []) := Option.some.inj (hq.symm.trans hq2)
    subst hqq
    refine vx_runU (bytes := cy) (maxL := mL) (ret := ry) (Ts := lw_all) (n := n) (C := C) (owner := owner) (x := x) (b := b) (As := xs.reverse.map (cv G)) ⟨F.1, F.2.1, F.2.2.1, F.2.2.2.1, F.2.2.2.2.1⟩ hct ?_ ⟨PcA_blind _ _ _ _, hrecv C T N9 hcl, hpc⟩ rfl (by simp [e3]) hl.1 hst (lv_room (by rw [cv_scat]; exact hsc)) hdec cb2
    rcases hor with hor | hor
    · exact va_cwU n hts hgood rfl rfl rfl hor hpar (cb mL hmL)
    · exact va_cwA n hts hgood rfl rfl rfl (am_nest F hor rfl) hpar (cb mL hmL)
  · have hqq : q = (y, cy, mL, ry, h0 :: hr) := Option.some.inj (hq.symm.trans hq2)
    subst hqq
    exact vx_runVX (Ts := lw_all) (C := C) (b := b) (As := xs.reverse.map (cv G)) (hh := h0 :: hr) ⟨F.1, F.2.1, F.2.2.1, F.2.2.2.1, F.2.2.2.2.1⟩ hct (vx_cwVW n hts hgood rfl rfl rfl ⟨hyC, hpar⟩ (cb mL hmL)) ⟨PcA_blind _ _ _ _, hrecv C T N9 hcl, hpc⟩ rfl (by simp [e3]) hl.1 hst (lv_room (by rw [cv_scat]; exact hsc)) hdec cb2
  · have hqq : q = (y, cy, mL, ry, []) := Option.some.inj (hq.symm.trans hq2)
    subst hqq
    have hc21 : cn = 21 := hc21
    subst hc21
    have hcl : clT[21]? = some (RJ15, TJ15, 4) := rfl
    refine vx_runU (bytes := cy) (maxL := mL) (ret := ry) (Ts := lw_all) (n := n) (C := RJ15) (owner := y.cls) (x := y) (b := b) (As := xs.reverse.map (cv G)) ⟨F.1, F.2.1, F.2.2.1, F.2.2.2.1, F.2.2.2.2.1⟩ hct ⟨⟨rfl, rfl, (cb mL hmL).1, (cb mL hmL).2, pay_in hts (lw_meth w7), List.mem_cons_self⟩, hts _ w7, hts _ w6, ⟨hpar.1, hpar.2.1⟩, fun sig h9 => ?_, hts _ w1, hts _ w2, va_Decl.of (hts _ w5) (hts _ w7), va_Nw.use rfl (hTF.2.2.2.2.2.2.2.2 y hpv), hts _ w5⟩ ⟨PcA_blind _ _ _ _, hrecv _ _ _ hcl, hpc⟩ rfl (by simp [e3]) hl.1 hst (lv_room (by rw [cv_scat]; exact hsc)) hdec cb2
    have h2 := hpar.2.2
    rw [h9] at h2
    exact (Option.some.inj h2).symm
theorem am_virt {la : Array Slot} {lsA : LSt} {st as st2 : List AV} {a n mi idx : Nat} {prs : List (Nat × Nat)} {N' : Option AV → AS → Prop} {X' : AS → Prop} (F : WFx p l R s m args meth c G g own cc nL d s0 ini) (hH : Hold G g.1 σ H) (hL : ∀ q ∈ locs, G.2.2.1 ≤ q.base) (hl : LsOK G la nL lsA) (hres : VOKs own idx n prs) (hk0 : (kd g.1 σ a).1 = 0) (hlk : lkp prs (kd g.1 σ a).2 = some mi) (hpop : popN n [] st = some (as, .inr (.inr (some (.inl a))) :: st2)) (hsc : scat st2 ≤ 8) (hdec : decode cc pc = .ok (.invokevirtual idx, 3))
    (h : callP G g l d mi (.inr (.inr (some (.inl a))) :: as) σ N' X')
    (kn : ∀ (r : Option AV) (σ' : AS) (H' : Heap) (locs' : List Loc) (cells' slots' : Nat), N' r σ' → Hold G g.1 σ' H' → (∀ q ∈ locs', G.2.2.1 ≤ q.base) → W p l e R s m args below meth c H' locs' cells' slots' Q (F0 m (pc + 3) la (r.toList.map (cv G) ++ st2.map (cv G))))
    (kx : ∀ (σ' : AS) (H' : Heap) (locs' : List Loc) (cells' slots' : Nat), X' σ' → Hold G g.1 σ' H' → (∀ q ∈ locs', G.2.2.1 ≤ q.base) → vx_W p l e R s m args below meth c H' locs' cells' slots' Q (F0 m pc la (st2.map (cv G))) (G.2.2.1 + 10)) :
    W p l e R s m args below meth c H locs cells slots Q (F0 m pc la (st.map (cv G))) := by
  obtain ⟨xs, e1, e2, e3⟩ := popN_spec n [] st as _ hpop
  have e1 : as = xs.reverse := by rw [e1, List.append_nil]
  subst e1
  subst e2
  have hkd : kd g.1 σ a = (0, (kd g.1 σ a).2) := Prod.ext hk0 rfl
  exact am_virtG F hH hL hl hres rfl (fun C T N9 hcl => am_recv F hH hkd hcl) hlk e3 hsc hdec h kn kx
theorem am_virtO {la : Array Slot} {lsA : LSt} {st as st2 : List AV} {a n mi idx : Nat} {prs : List (Nat × Nat)} {N' : Option AV → AS → Prop} {X' : AS → Prop} (F : WFx p l R s m args meth c G g own cc nL d s0 ini) (hH : Hold G g.1 σ H) (hL : ∀ q ∈ locs, G.2.2.1 ≤ q.base) (hl : LsOK G la nL lsA) (hres : VOKs own idx n prs) (hk0 : (oK g.2.1 a).1 = 0) (hlk : lkp prs (oK g.2.1 a).2 = some mi) (hpop : popN n [] st = some (as, .inr (.inr (some (.inr a))) :: st2)) (hsc : scat st2 ≤ 8) (hdec : decode cc pc = .ok (.invokevirtual idx, 3))
    (h : callP G g l d mi (.inr (.inr (some (.inr a))) :: as) σ N' X')
    (kn : ∀ (r : Option AV) (σ' : AS) (H' : Heap) (locs' : List Loc) (cells' slots' : Nat), N' r σ' → Hold G g.1 σ' H' → (∀ q ∈ locs', G.2.2.1 ≤ q.base) → W p l e R s m args below meth c H' locs' cells' slots' Q (F0 m (pc + 3) la (r.toList.map (cv G) ++ st2.map (cv G))))
    (kx : ∀ (σ' : AS) (H' : Heap) (locs' : List Loc) (cells' slots' : Nat), X' σ' → Hold G g.1 σ' H' → (∀ q ∈ locs', G.2.2.1 ≤ q.base) → vx_W p l e R s m args below meth c H' locs' cells' slots' Q (F0 m pc la (st2.map (cv G))) (G.2.2.1 + 10)) :
    W p l e R s m args below meth c H locs cells slots Q (F0 m pc la (st.map (cv G))) := by
  obtain ⟨xs, e1, e2, e3⟩ := popN_spec n [] st as _ hpop
  have e1 : as = xs.reverse := by rw [e1, List.append_nil]
  subst e1
  subst e2
  have hkd : oK g.2.1 a = (0, (oK g.2.1 a).2) := Prod.ext hk0 rfl
  exact am_virtG F hH hL hl hres rfl (fun C T N9 hcl => am_recvO F hH hkd hcl) hlk e3 hsc hdec h kn kx
theorem am_run5 {mc ms : Nat} {st0 : List Value} {a : Array Value} {N' : Option AV → AS → Prop} {X' : AS → Prop} (hrun : vx_Run5 p l e R s m args below meth c H locs cells slots mc ms (F0 m pc ls st0) rest (QcA G g N' a) (XcA G g X') (fun q => G.2.2.1 ≤ q)) (hL : ∀ q ∈ locs, G.2.2.1 ≤ q.base)
    (kn : ∀ (r : Option AV) (σ' : AS) (H' : Heap) (locs' : List Loc) (cells' slots' : Nat), N' r σ' → Hold G g.1 σ' H' → (∀ q ∈ locs', G.2.2.1 ≤ q.base) → W p l e R s m args below meth c H' locs' cells' slots' Q (F0 m (pc + 5) ls (r.toList.map (cv G) ++ rest)))
    (kx : ∀ (σ' : AS) (H' : Heap) (locs' : List Loc) (cells' slots' : Nat), X' σ' → Hold G g.1 σ' H' → (∀ q ∈ locs', G.2.2.1 ≤ q.base) → vx_W p l e R s m args below meth c H' locs' cells' slots' Q (F0 m pc ls rest) (G.2.2.1 + 10)) :
    W p l e R s m args below meth c H locs cells slots Q (F0 m pc ls st0) := by
  intro T hT X
  have hLL : ∀ L : List Loc, (∀ q ∈ L, G.2.2.1 ≤ q.base) → ∀ q ∈ locs ++ L, G.2.2.1 ≤ q.base := fun L h q hq => (List.mem_append.mp hq).elim (hL q) (h q)
  rcases hrun T hT X with ⟨v, st₀, t, T', L, -, X', hf, h1, h2, hQ, hgo⟩ | ⟨q, st₀, t, T', L, E, ce, -, X', hf, h1, h2, hX, -, -, -, hgo⟩
  · obtain ⟨r, σ', hr, hN, hH⟩ := hQ
    cases hr
    obtain ⟨t', a1, b1⟩ := kn r σ' T'.heap (locs ++ L) (cells + mc) (slots + ms) hN (by rw [h1]; exact hH) (hLL L hf) T' rfl X'
    have e1 : (r.map (cv G)).toList = r.toList.map (cv G) := by cases r <;> rfl
    rw [e1] at hgo
    exact ⟨t', hgo t' a1, b1⟩
  · obtain ⟨-, rfl, σ', hX, hH⟩ := hX
    obtain ⟨t', a1, b1⟩ := kx σ' T'.heap (locs ++ L) (cells + mc) (slots + ms) hX (by rw [h1]; exact hH) (hLL L hf) T' rfl X'
    exact ⟨t', Steps.trans hgo a1, b1⟩
/-- a call, whatever its kind -/
theorem am_call5 {la : Array Slot} {as st2 : List AV} {stv : List Value} {mi : Nat} {N' : Option AV → AS → Prop} {X' : AS → Prop} (F : WFx p l R s m args meth c G g own cc nL d s0 ini) (hH : Hold G g.1 σ H) (hL : ∀ q ∈ locs, G.2.2.1 ≤ q.base)
    (h : callP G g l d mi as σ N' X')
    (mk : ∀ (d' : Nat) (q : MI) (N1 : Option AV → AS → Prop) (X1 : AS → Prop), d = d' + 1 → getM MT mi = some q → CTm G g l d' q as σ N1 X1 → (∀ mL : Nat, mL ≤ 40 → ((rmA d' σ).frames + 1 ≤ R.frames ∧ 8 + (mL + 11) + (rmA d' σ).locals ≤ R.locals)) → ((zn σ - zn s0) + (CMAX - zn σ) ≤ R.cells ∧ (zu σ - zu s0) + (SMAX - zu σ) ≤ R.slots) →
      vx_Run5 p l e R s m args below meth c H locs (zn σ - zn s0) (zu σ - zu s0) (CMAX - zn σ) (SMAX - zu σ) (F0 m pc la stv) (st2.map (cv G)) (QcA G g N1 (as.map (cv G)).toArray) (XcA G g X1) (fun q => G.2.2.1 ≤ q))
    (kn : ∀ (r : Option AV) (σ' : AS) (H' : Heap) (locs' : List Loc) (cells' slots' : Nat), N' r σ' → Hold G g.1 σ' H' → (∀ q ∈ locs', G.2.2.1 ≤ q.base) → W p l e R s m args below meth c H' locs' cells' slots' Q (F0 m (pc + 5) la (r.toList.map (cv G) ++ st2.map (cv G))))
    (kx : ∀ (σ' : AS) (H' : Heap) (locs' : List Loc) (cells' slots' : Nat), X' σ' → Hold G g.1 σ' H' → (∀ q ∈ locs', G.2.2.1 ≤ q.base) → vx_W p l e R s m args below meth c H' locs' cells' slots' Q (F0 m pc la (st2.map (cv G))) (G.2.2.1 + 10)) :
    W p l e R s m args below meth c H locs cells slots Q (F0 m pc la stv) := by
  cases d with
  | zero => exact h.elim
  | succ d =>
    obtain ⟨N1, X1, ⟨q, hq, hct⟩, hn, hxx⟩ := h
    refine Wt F hH fun hle => ?_
    exact am_run5 (N' := N1) (X' := X1) (a := (as.map (cv G)).toArray) (rest := st2.map (cv G)) (mc := CMAX - zn σ) (ms := SMAX - zu σ) (mk d q N1 X1 rfl hq hct (fun mL hm => (am_cb F hH hm hle).1) (am_cb F hH (mL := 0) (by omega) hle).2) hL (fun r σ' H' locs' c3 c4 h1 h2 h3 => kn r σ' H' locs' c3 c4 (hn r σ' h1) h2 h3) (fun σ' H' locs' c3 c4 h1 h2 h3 => kx σ' H' locs' c3 c4 (hxx σ' h1) h2 h3)
theorem am_face {la : Array Slot} {lsA : LSt} {st as st2 : List AV} {a n mi idx ct9 : Nat} {prs : List (Nat × Nat)} {N' : Option AV → AS → Prop} {X' : AS → Prop} (F : WFx p l R s m args meth c G g own cc nL d s0 ini) (hH : Hold G g.1 σ H) (hL : ∀ q ∈ locs, G.2.2.1 ≤ q.base) (hl : LsOK G la nL lsA) (hres : FOKs own idx n prs) (hk0 : (kd g.1 σ a).1 = 0) (hlk : lkp prs (kd g.1 σ a).2 = some mi) (hpop : popN n [] st = some (as, .inr (.inr (some (.inl a))) :: st2)) (hsc : scat st2 ≤ 8) (hdec : decode cc pc = .ok (.invokeinterface idx ct9, 5))
    (h : callP G g l d mi (.inr (.inr (some (.inl a))) :: as) σ N' X')
    (kn : ∀ (r : Option AV) (σ' : AS) (H' : Heap) (locs' : List Loc) (cells' slots' : Nat), N' r σ' → Hold G g.1 σ' H' → (∀ q ∈ locs', G.2.2.1 ≤ q.base) → W p l e R s m args below meth c H' locs' cells' slots' Q (F0 m (pc + 5) la (r.toList.map (cv G) ++ st2.map (cv G))))
    (kx : ∀ (σ' : AS) (H' : Heap) (locs' : List Loc) (cells' slots' : Nat), X' σ' → Hold G g.1 σ' H' → (∀ q ∈ locs', G.2.2.1 ≤ q.base) → vx_W p l e R s m args below meth c H' locs' cells' slots' Q (F0 m pc la (st2.map (cv G))) (G.2.2.1 + 10)) :
    W p l e R s m args below meth c H locs cells slots Q (F0 m pc la (st.map (cv G))) := by
  obtain ⟨xs, e1, e2, e3⟩ := popN_spec n [] st as _ hpop
  have e1 : as = xs.reverse := by rw [e1, List.append_nil]
  subst e1
  subst e2
  have hkd : kd g.1 σ a = (0, (kd g.1 σ a).2) := Prod.ext hk0 rfl
  have hTF := F.2.2.2.2.2.1
  have hts := F.2.2.2.2.1
  refine am_call5 F hH hL h (fun d' q N1 X1 hd hq hct cb cb2 => ?_) kn kx
  obtain ⟨T, N9, x, y, cy, mL, ry, hcl, hq2, hmem, hgood, hpar, hmL⟩ := FOKs_lkp prs _ _ hres hlk
  have hqq : q = (y, cy, mL, ry, []) := Option.some.inj (hq.symm.trans hq2)
  subst hqq
  exact vx_runF (Ts := lw_all) (C := "java/util/ArrayList") (x := x) (b := G.2.2.1 + a) (As := xs.reverse.map (cv G)) ((hTF.1.1 _ _ hcl).2) ⟨F.1, F.2.1, F.2.2.1, F.2.2.2.1, F.2.2.2.2.1⟩ hct (va_cwF n hts hgood rfl rfl rfl (hTF.2.2.2.2.2.2.1 (x, y) hmem) hpar (cb mL hmL)) ⟨PcA_blind _ _ _ _, am_recv F hH hkd hcl, fun U hU hW => ⟨rfl, by rw [hU]; exact hH, hTF.moved hW⟩⟩ rfl (by simp [e3]) hl.1 (by simp; rfl) (lv_room (by rw [cv_scat]; exact hsc)) hdec cb2
end Snd
