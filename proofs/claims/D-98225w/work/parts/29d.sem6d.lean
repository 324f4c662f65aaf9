/-! statics, constants, arrays of objects, casts, copies -/
theorem kd_cpI {ph : Bool} {s : AS} {b a sp dp n c : Nat} : kd ph (cpI s b a sp dp n) c = kd ph s c := rfl
theorem gI_cpI_ne {s : AS} {b a sp dp n c : Nat} (h : c ≠ a) : gI (cpI s b a sp dp n) c = gI s c := by
  funext j; simp [gI, cpI, h]
theorem gI_cpI {s : AS} {b a sp dp n j : Nat} : gI (cpI s b a sp dp n) a j = va_cpy (gI s b) (gI s a) sp dp n j := by
  simp [gI, cpI, va_cpy]
theorem gR_dyn {ph : Bool} {s : AS} {a j : Nat} (h : NF ≤ a) : gR ph s a j = s.2.2.1 a j := by
  cases ph
  · rfl
  · simp [gR, rfx, fixR_dyn h]
theorem gR_cpR_ne {ph : Bool} {s : AS} {b a sp dp n c : Nat} (h : c ≠ a) : gR ph (cpR s b a sp dp n) c = gR ph s c := by
  funext j
  cases ph <;> simp [gR, cpR, rfx, h]
theorem gR_cpR {ph : Bool} {s : AS} {b a sp dp n j : Nat} (ha : NF ≤ a) (hb : NF ≤ b) : gR ph (cpR s b a sp dp n) a j = va_cpy (gR ph s b) (gR ph s a) sp dp n j := by
  rw [gR_dyn ha]
  unfold va_cpy
  split
  · rename_i h
    rw [gR_dyn hb]
    simp [cpR, h]
  · rename_i h
    rw [gR_dyn ha]
    simp [cpR, h]
theorem obj_cast : ∀ (cn : Nat), cn < 23 → ∀ (D : String) (T : u_T) (N9 : Nat), clT[cn]? = some (D, T, N9) → D = "java/lang/Object" ∨ Cond.castable D "java/lang/Object" ∈ lw_tbl := by
  intro cn h D T N9 hcl
  match cn, h, hcl with
  | 0, _, hcl => cases hcl; exact Or.inr q2656
  | 1, _, hcl => cases hcl; exact Or.inr q2657
  | 2, _, hcl => cases hcl; exact Or.inr q2659
  | 3, _, hcl => cases hcl; exact Or.inr q2660
  | 4, _, hcl => cases hcl; exact Or.inr q2661
  | 5, _, hcl => cases hcl; exact Or.inr q2654
  | 6, _, hcl => cases hcl; exact Or.inr q2662
  | 7, _, hcl => cases hcl; exact Or.inr q2664
  | 8, _, hcl => cases hcl; exact Or.inr q2665
  | 9, _, hcl => cases hcl; exact Or.inr q2666
  | 10, _, hcl => cases hcl; exact Or.inr q2668
  | 11, _, hcl => cases hcl; exact Or.inr q2669
  | 12, _, hcl => cases hcl; exact Or.inr q2670
  | 13, _, hcl => cases hcl; exact Or.inr q2671
  | 14, _, hcl => cases hcl; exact Or.inr q2672
  | 15, _, hcl => cases hcl; exact Or.inr q2673
  | 16, _, hcl => cases hcl; exact Or.inr q2674
  | 17, _, hcl => cases hcl; exact Or.inr q2675
  | 18, _, hcl => cases hcl; exact Or.inr q2676
  | 19, _, hcl => cases hcl; exact Or.inr q2677
  | 20, _, hcl => cases hcl; exact Or.inr q2658
  | 21, _, hcl => cases hcl; exact Or.inr q2667
  | 22, _, hcl => cases hcl; exact Or.inr q2655
section Snd
variable {p : Program} {l : Launch} {e : Env} {R : Room} {s : State} {m : MethodId} {args : Array Value} {below : List Frame} {meth : Method} {c : Code} {H : Heap} {locs : List Loc} {cells slots : Nat} {Q : State → Prop}
variable {G : CX} {g : GM} {own : String} {cc : ByteArray} {nL d : Nat} {s0 σ : AS} {ini : Bool} {pc : Nat} {ls : Array Slot} {rest : List Value}
theorem am_gets (F : WFx p l R s m args meth c G g own cc nL d s0 ini) (hH : Hold G g.1 σ H) {idx : Nat} {aux : List Nat} (hres : GSOK own idx aux) (hdg : decode cc pc = .ok (.getstatic idx, 3))
    (kk : W p l e R s m args below meth c H locs cells slots Q (F0 m (pc + 3) ls (sval G g aux :: rest))) : W p l e R s m args below meth c H locs cells slots Q (F0 m pc ls rest) := by
  obtain ⟨hx, hb, -, hown, hts, ⟨hK, hnw, hold, hext⟩, -⟩ := F
  obtain ⟨C, n, ds, hmem, hlk⟩ := hres
  obtain ⟨cf, kf, fi, f, a, cell, h1, h2, h3, h4, h5, h6, h7, h8⟩ := hext.1 _ hmem
  have h8 : a < G.2.2.1 := Nat.lt_of_not_le h8
  have h5 : H[a]? = some cell := by rw [hH.2.2.1 a h8]; exact h5
  rcases hlk with hlk | ⟨host, hlk⟩
  · exact W.gets hx hb hown (hts _ hlk) h1 h2 h3 h4 h5 (fun e => by rw [e] at h6; cases h6) h7 rfl hdg kk
  · exact va_WgetsN hx hb hown (va_Nw.use rfl (hnw _ hlk rfl)) h1 h2 h3 h4 h5 (fun e => by rw [e] at h6; cases h6) h7 rfl hdg kk
theorem am_ldcS (F : WFx p l R s m args meth c G g own cc nL d s0 ini) {idx j : Nat} (hres : ∃ tx, (own, idx, tx, j) ∈ strL) (hdg : decode cc pc = .ok (.ldc idx, 2))
    (kk : W p l e R s m args below meth c H locs cells slots Q (F0 m (pc + 2) ls (.ref (G.2.2.2.2.2 j) :: rest))) : W p l e R s m args below meth c H locs cells slots Q (F0 m pc ls rest) := by
  obtain ⟨hx, hb, -, hown, hts, ⟨hK, hnw, hold, hext⟩, -⟩ := F
  obtain ⟨tx, hmem⟩ := hres
  exact va_ldcS hx hb hown (hext.2.1 _ hmem) hdg kk
theorem am_ldcSW (F : WFx p l R s m args meth c G g own cc nL d s0 ini) {idx j : Nat} (hres : ∃ tx, (own, idx, tx, j) ∈ strL) (hdg : decode cc pc = .ok (.ldc_w idx, 3))
    (kk : W p l e R s m args below meth c H locs cells slots Q (F0 m (pc + 3) ls (.ref (G.2.2.2.2.2 j) :: rest))) : W p l e R s m args below meth c H locs cells slots Q (F0 m pc ls rest) := by
  obtain ⟨hx, hb, -, hown, hts, ⟨hK, hnw, hold, hext⟩, -⟩ := F
  obtain ⟨tx, hmem⟩ := hres
  have hZ := hext.2.1 _ hmem
  intro T hT X
  obtain ⟨t, a1, b1⟩ := kk T hT X
  exact ⟨t, X.ldcStringW hx hown (text := tx) (a := G.2.2.2.2.2 j) hZ.1 hZ.2 (g := F0 m pc ls rest) rfl (by rw [hb]; exact hdg) t a1, b1⟩
theorem am_ldcM (F : WFx p l R s m args meth c G g own cc nL d s0 ini) {idx : Nat} (hres : Cond.classLink own idx "[Ljava/lang/Object;" ∈ lw_all) (hdg : decode cc pc = .ok (.ldc idx, 2))
    (kk : W p l e R s m args below meth c H locs cells slots Q (F0 m (pc + 2) ls (.ref (G.2.2.2.2.2 95) :: rest))) : W p l e R s m args below meth c H locs cells slots Q (F0 m pc ls rest) := by
  obtain ⟨hx, hb, -, hown, hts, ⟨hK, hnw, hold, hext⟩, -⟩ := F
  exact va_ldcM hx hb hown (hts _ hres) hext.2.2.2.2.1 hdg kk
theorem am_RA (F : WFx p l R s m args meth c G g own cc nL d s0 ini) {t : Nat} (h2 : t ≤ 10) : va_RA s (G.2.1 t) (tyOf t) := by
  obtain ⟨-, -, -, -, -, ⟨hK, -, -, -⟩, -⟩ := F
  exact (hK.2 t (G.2.1 t, tyOf t) (by rw [tysL, List.getElem?_map, List.getElem?_range (by omega)]; rfl)).2
theorem am_anew (F : WFx p l R s m args meth c G g own cc nL d s0 ini) (hH : Hold G g.1 σ H) {idx t : Nat} {C : String} (ht : t = 7 ∨ t = 8) (hty : tyOf t = .object C) (hcl : Cond.classLink own idx C ∈ lw_all) (hao : va_AO C s) {n : Int32} (hn : ¬ n < 0) (hb9 : n.toNatClampNeg ≤ 100000) (hroom : zn σ + 1 ≤ CMAX ∧ zu σ + n.toNatClampNeg ≤ SMAX)
    (hkd : kd g.1 (nw σ (t, n.toNatClampNeg) n.toNatClampNeg) (zn σ) = (t, n.toNatClampNeg)) (hdg : decode cc pc = .ok (.anewarray idx, 3))
    (kk : ∀ (H' : Heap) (cells' slots' : Nat), Hold G g.1 (nw σ (t, n.toNatClampNeg) n.toNatClampNeg) H' → W p l e R s m args below meth c H' locs cells' slots' Q (F0 m (pc + 3) ls (.ref (G.2.2.1 + zn σ) :: rest))) : W p l e R s m args below meth c H locs cells slots Q (F0 m pc ls (.int n :: rest)) := by
  refine Wt F hH fun hle => ?_
  have hRA := am_RA F (t := t) (by omega)
  rw [hty] at hRA
  obtain ⟨hx, hb, -, hown, hts, ⟨hK, hnw, hold, hext⟩, -, ⟨r1, r2, -⟩, -, -⟩ := F
  refine W.anew hx hb hown (hts _ hcl) (va_AO.use hao) rfl hdg rfl hn (by omega) (by rw [r1]; omega) (by rw [r2]; omega) fun cA kA comp k1 k2 k3 k4 => ?_
  obtain ⟨kA9, comp9, -, -, -, f4⟩ := hRA
  have hcA : cA = G.2.1 t := Option.some.inj (k1.symm.trans f4)
  subst hcA
  have hH' : Hold G g.1 (nw σ (t, n.toNatClampNeg) n.toNatClampNeg) (H.push { cls := G.2.1 t, slots := Array.replicate n.toNatClampNeg .null, vm := .none }) := by
    refine hH.push (by simp) hroom ?_
    obtain ⟨t, rfl⟩ : ∃ t', t = t' + 1 := ⟨t - 1, by omega⟩
    have hc : cellOf G g.1 (nw σ (t+1, n.toNatClampNeg) n.toNatClampNeg) (zn σ) = .inl (G.2.1 (t+1), n.toNatClampNeg, aval G g.1 (nw σ (t+1, n.toNatClampNeg) n.toNatClampNeg) (zn σ) (t+1)) := by simp only [cellOf, hkd]
    rw [hc]
    show (H.push _)[G.2.2.1 + zn σ]? = some (vp_cell _ _)
    rw [vp_cell_elv _ _ _ _ _ _ _ (by omega), ← hH.1, Array.getElem?_push_size, arrV_new]
    congr 2
    funext j
    rw [elv_nw (fun h => hH.2.2.2.1 h) (by omega) (by omega), hty]
    rfl
  have hk := kk _ (zn σ - zn s0 + 1) (zu σ - zu s0 + n.toNatClampNeg) hH'
  rw [← hH.1] at hk
  exact hk
/-- an object of class cn may stand where a C is asked -/
theorem am_asg (F : WFx p l R s m args meth c G g own cc nL d s0 ini) {cn : Nat} {D C : String} {T : u_T} {N9 : Nat} (hcl : clT[cn]? = some (D, T, N9)) (hor : D = C ∨ Cond.castable D C ∈ lw_tbl) : ∃ cD cC : ClassId, s.vm.findClass D = some cD ∧ s.vm.findClass C = some cC ∧ s.vm.assignable cD cC = true := by
  have hK := (F.2.2.2.2.2.1.1.1 _ _ hcl).2
  rcases hor with rfl | hor
  · exact ⟨_, _, hK.1, hK.1, va_assign hK⟩
  · obtain ⟨c0, t1, f1, f2, f3⟩ := Cond.castable_spec (va_Nw.use (A := args) rfl (am_nest F hor rfl))
    exact ⟨c0, t1, f1, f2, f3⟩
theorem am_aast (F : WFx p l R s m args meth c G g own cc nL d s0 ini) (hH : Hold G g.1 σ H) {a t n v cn : Nat} {C D : String} {T : u_T} {N9 : Nat} (hkd : kd g.1 σ a = (t, n)) (ht : t = 7 ∨ t = 8) (hty : tyOf t = .object C) (hkv : kd g.1 σ v = (0, cn)) (hcl : clT[cn]? = some (D, T, N9)) (hor : D = C ∨ Cond.castable D C ∈ lw_tbl) {j : Int32} (hin : vp_in j n) (hfx : (!g.1 || (fixR a j.toNatClampNeg).isNone) = true) (hdg : decode cc pc = .ok (.aastore, 1))
    (kk : ∀ (H' : Heap), Hold G g.1 (sR σ a j.toNatClampNeg (some (.inl v))) H' → W p l e R s m args below meth c H' (locs ++ [⟨G.2.2.1 + a, j.toNatClampNeg⟩]) cells slots Q (F0 m (pc + 1) ls rest)) : W p l e R s m args below meth c H locs cells slots Q (F0 m pc ls (.ref (G.2.2.1 + v) :: .int j :: .ref (G.2.2.1 + a) :: rest)) := by
  have hRA := am_RA F (t := t) (by omega)
  rw [hty] at hRA
  obtain ⟨cD, cC, g1, g2, g3⟩ := am_asg F hcl hor
  have hKv := (F.2.2.2.2.2.1.1.1 _ _ hcl).2
  obtain ⟨hx, hb, -, hown, hts, ⟨hK, hnw, hold, hext⟩, -⟩ := F
  obtain ⟨kA, comp, k1, k2, k3, -⟩ := hRA
  cases k3.symm.trans g2
  obtain ⟨kE, hkE, -⟩ := Vm.findClass_spec k3
  obtain ⟨r9, hr9, cellV, q1, q2, q3, -⟩ := am_obj hH hkv
  cases hKv.1.symm.trans g1
  obtain ⟨kC, hkC, -⟩ := hKv.2
  refine W.aast hx hb (am_arr hH hkd (by omega) (by omega)) (fun q h => by cases h) (fun h => by cases h) k1 k2 rfl hkE ⟨fun q => hin (Or.inl q), by rw [arrV_size]; exact am_ilt hin⟩ q1 (fun q h => by rw [q3] at h; cases h) (by rw [q2]; exact hkC) (by rw [q2]; exact g3) rfl rfl hdg fun H2 e1 e2 e3 => kk H2 ?_
  refine am_stH hH (σ' := sR σ a j.toNatClampNeg (some (.inl v))) (v := .ref (G.2.2.1 + v)) hkd (by omega) (by omega) rfl rfl (fun _ => rfl) (fun b hb => cellOf_congr rfl rfl rfl (gR_sR_ne hb)) (fun i => ?_) e1 e2 e3
  rw [elv7 (by omega), elv7 (by omega), gR_sR_at hfx]
  split <;> rfl
theorem kcode0_eq {n k : Nat} (h : kcode0 n = k) (hk : k < 1000 ∨ (1000 ≤ k ∧ k ≤ 9998)) : n = k ∧ k < 1000 := by
  unfold kcode0 at h
  split at h
  · rename_i hb
    have := Nat.le_of_ble_eq_true hb
    omega
  · omega
theorem kcode_eq {q : Nat × Nat} {k : Nat} (h : kcode q = k) (hk : k ≤ 9998) : (k < 1000 → q = (0, k)) ∧ (1000 ≤ k → q.1 + 1000 = k) := by
  obtain ⟨t, n⟩ := q
  cases t with
  | zero =>
    have := kcode0_eq (show kcode0 n = k from h) (by omega)
    refine ⟨fun _ => by rw [this.1], fun q => by omega⟩
  | succ t =>
    have h : 1001 + t = k := h
    exact ⟨fun q => by omega, fun _ => by show t + 1 + 1000 = k; omega⟩
theorem kcodeO_eq {q : Nat × Nat} {k : Nat} (h : kcodeO q = k) (hk : k ≤ 9998) : k < 1000 ∧ q = (0, k) := by
  obtain ⟨t, n⟩ := q
  cases t with
  | zero =>
    have := kcode0_eq (show kcode0 n = k from h) (by omega)
    exact ⟨this.2, by rw [this.1]⟩
  | succ t =>
    have h : 9999 = k := h
    omega
theorem am_castR (F : WFx p l R s m args meth c G g own cc nL d s0 ini) (hH : Hold G g.1 σ H) {nm : String} {cs : List Nat} (hcs : CaOKs nm cs) {a : Nat ⊕ Nat} (hg : cs.contains (kcA g σ a) = true) : ∃ (cell : Cell) (cN : ClassId), H[ad G a]? = some cell ∧ cell.vm.isStatics = false ∧ s.vm.findClass nm = some cN ∧ s.vm.assignable cell.cls cN = true := by
  generalize hk0 : kcA g σ a = k0 at hg
  rcases CaOKs_mem cs _ hcs hg with ⟨C, T, N9, hcl, hlt, hor⟩ | ⟨rfl, rfl⟩ | ⟨rfl, rfl⟩
  · obtain ⟨cD, cC, g1, g2, g3⟩ := am_asg F hcl hor
    cases a with
    | inl a =>
      obtain ⟨cell, v1, v2, v3⟩ := am_recv F hH (a := a) ((kcode_eq hk0 (by omega)).1 hlt) hcl
      cases v3.symm.trans g1
      exact ⟨cell, cC, v1, v2, g2, g3⟩
    | inr a =>
      obtain ⟨cell, v1, v2, v3⟩ := am_recvO F hH (a := a) (kcodeO_eq hk0 (by omega)).2 hcl
      cases v3.symm.trans g1
      exact ⟨cell, cC, v1, v2, g2, g3⟩
  · have hRA : s.vm.findClass "[B" = some (G.2.1 2) := am_RA F (t := 2) (by omega)
    cases a with
    | inl a =>
      have hz : (kd g.1 σ a).1 = 2 := by have := (kcode_eq hk0 (by omega)).2 (by omega); omega
      have hkd : kd g.1 σ a = (2, (kd g.1 σ a).2) := Prod.ext hz rfl
      exact ⟨_, _, am_arr hH hkd (by omega) (by omega), rfl, hRA, va_asg _ _⟩
    | inr a =>
      have := (kcodeO_eq hk0 (by omega)).1
      omega
  · have hRA : va_RA s (G.2.1 7) (tyOf 7) := am_RA F (t := 7) (by omega)
    obtain ⟨-, -, -, -, -, hRA⟩ := hRA
    cases a with
    | inl a =>
      have hz : (kd g.1 σ a).1 = 7 := by have := (kcode_eq hk0 (by omega)).2 (by omega); omega
      have hkd : kd g.1 σ a = (7, (kd g.1 σ a).2) := Prod.ext hz rfl
      exact ⟨_, _, am_arr hH hkd (by omega) (by omega), rfl, hRA, va_asg _ _⟩
    | inr a =>
      have := (kcodeO_eq hk0 (by omega)).1
      omega
theorem am_cast (F : WFx p l R s m args meth c G g own cc nL d s0 ini) (hH : Hold G g.1 σ H) {nm : String} {idx : Nat} {cs : List Nat} (hlk : Cond.classLink own idx nm ∈ lw_all) (hcs : CaOKs nm cs) {a : Nat ⊕ Nat} (hg : cs.contains (kcA g σ a) = true) (hdg : decode cc pc = .ok (.checkcast idx, 3))
    (kk : W p l e R s m args below meth c H locs cells slots Q (F0 m (pc + 3) ls (.ref (ad G a) :: rest))) : W p l e R s m args below meth c H locs cells slots Q (F0 m pc ls (.ref (ad G a) :: rest)) := by
  obtain ⟨cell, cN, h1, h2, h3, h4⟩ := am_castR F hH hcs hg
  obtain ⟨hx, hb, -, hown, hts, -, -⟩ := F
  intro T hT X
  obtain ⟨vm', X', st⟩ := X.checkcastYes hx hown (hts _ hlk) (by rw [hT]; exact h1) h2 h3 h4 (g := F0 m pc ls (.ref (ad G a) :: rest)) rfl rfl (by rw [hb]; exact hdg)
  obtain ⟨t, a1, b1⟩ := kk (T.setVm vm') hT X'
  exact ⟨t, st t a1, b1⟩
theorem am_inst (F : WFx p l R s m args meth c G g own cc nL d s0 ini) (hH : Hold G g.1 σ H) {nm : String} {idx : Nat} {cs : List Nat} (hlk : Cond.classLink own idx nm ∈ lw_all) (hcs : CaOKs nm cs) {a : Nat ⊕ Nat} (hg : cs.contains (kcA g σ a) = true) (hdg : decode cc pc = .ok (.instanceof idx, 3))
    (kk : W p l e R s m args below meth c H locs cells slots Q (F0 m (pc + 3) ls (.int (nI 1) :: rest))) : W p l e R s m args below meth c H locs cells slots Q (F0 m pc ls (.ref (ad G a) :: rest)) := by
  obtain ⟨cell, cN, h1, h2, h3, h4⟩ := am_castR F hH hcs hg
  obtain ⟨hx, hb, -, hown, hts, -, -⟩ := F
  intro T hT X
  obtain ⟨vm', X', st⟩ := X.instanceofYes hx hown (hts _ hlk) (by rw [hT]; exact h1) h2 h3 h4 (g := F0 m pc ls (.ref (ad G a) :: rest)) rfl rfl (by rw [hb]; exact hdg)
  obtain ⟨t, a1, b1⟩ := kk (T.setVm vm') hT X'
  exact ⟨t, st t a1, b1⟩
theorem am_old (F : WFx p l R s m args meth c G g own cc nL d s0 ini) {j : Nat} (h : oldOK j = true) : G.2.2.2.2.2 j < G.2.2.1 := by
  have hj : (oK g.2.1 j).1 ≤ 10 := by
    unfold oldOK at h
    rw [Bool.and_eq_true] at h
    have h1 : 0 < j := Nat.le_of_ble_eq_true h.1
    have h2 : j < 95 := Nat.le_of_ble_eq_true h.2
    obtain ⟨i, rfl⟩ : ∃ i, j = i + 1 := ⟨j - 1, by omega⟩
    show (getP oKL (i+1)).1 ≤ 10
    have : ∀ k : Fin 95, k.val ≠ 0 → (getP oKL k.val).1 ≤ 10 := by decide +kernel
    exact this ⟨i+1, h2⟩ (by simp)
  exact (F.2.2.2.2.2.1.2.2.1 j hj).1
theorem am_getC (F : WFx p l R s m args meth c G g own cc nL d s0 ini) (hdp : 1 ≤ d) (hH : Hold G g.1 σ H) (hls : ls.size = nL) {idx a : Nat} {st : List AV} (hk : (kd g.1 σ a).1 = 7) (hsc : scat st ≤ 8)
    (w1 : Cond.methodLink own idx ⟨"java/lang/Object", "getClass", "()Ljava/lang/Class;"⟩ ∈ lw_all) (w2 : Cond.selects "[Ljava/lang/Object;" ⟨"java/lang/Object", "getClass", "()Ljava/lang/Class;"⟩ ⟨"java/lang/Object", "getClass", "()Ljava/lang/Class;"⟩ ∈ lw_all) (w3 : Cond.instanceMethod ⟨"java/lang/Object", "getClass", "()Ljava/lang/Class;"⟩ ∈ lw_all) (w4 : Cond.native ⟨"java/lang/Object", "getClass", "()Ljava/lang/Class;"⟩ ∈ lw_all) (w5 : Cond.declares ⟨"java/lang/Object", "getClass", "()Ljava/lang/Class;"⟩ ∈ lw_tbl)
    (hdg : decode cc pc = .ok (.invokevirtual idx, 3))
    (kk : W p l e R s m args below meth c H locs cells slots Q (F0 m (pc + 3) ls (.ref (G.2.2.2.2.2 95) :: st.map (cv G)))) : W p l e R s m args below meth c H locs cells slots Q (F0 m pc ls (.ref (G.2.2.1 + a) :: st.map (cv G))) := by
  have hRA : va_RA s (G.2.1 7) (tyOf 7) := am_RA F (t := 7) (by omega)
  obtain ⟨-, -, -, -, -, hRA⟩ := hRA
  have hkd : kd g.1 σ a = (7, (kd g.1 σ a).2) := Prod.ext hk rfl
  have hlc := am_lc1 F hdp (pc := pc) (ls := ls) hsc (x := [])
  have hfr := am_fr1 F hdp
  have h5 := am_nest F w5 rfl
  have hml := F.2.2.1
  have r4 := F.2.2.2.2.2.2.2.1.2.2.2
  have hloc : ((st.map (cv G)).map fun v => v.category).sum + 14 ≤ R.locals := by rw [cv_scat]; omega
  exact va_getC F.1 F.2.1 (by rw [hml, hls]) F.2.2.2.1 (F.2.2.2.2.1 _ w1) (va_Nw.use rfl h5) (F.2.2.2.2.1 _ w2) (F.2.2.2.2.1 _ w3) (F.2.2.2.2.1 _ w4) F.2.2.2.2.2.1.2.2.2.2.2.2.2.1 ⟨_, am_arr hH hkd (by omega) (by omega), rfl, hRA⟩ hfr hloc hdg kk
/-- the copied cell -/
theorem am_copy (F : WFx p l R s m args meth c G g own cc nL d s0 ini) (hdp : 1 ≤ d) (hH : Hold G g.1 σ H) (hL : ∀ q ∈ locs, G.2.2.1 ≤ q.base) (hls : ls.size = nL) {idx a b t na nb : Nat} {st : List AV} (ht : t = 2 ∨ t = 7) (hka : kd g.1 σ a = (t, na)) (hkb : kd g.1 σ b = (t, nb)) (hsc : scat st ≤ 8) {σ' : AS}
    (w1 : Cond.methodLink own idx arraycopyName ∈ lw_all) (w2 : Cond.native arraycopyName ∈ lw_all) (w3 : Cond.static arraycopyName ∈ lw_all) (w4 : Cond.initialized "java/lang/System" ∈ lw_all) {sp dp n : Int32} (h1 : ¬ sp < 0) (h2 : ¬ dp < 0) (h3 : ¬ n < 0) (h4 : sp.toNatClampNeg + n.toNatClampNeg ≤ nb) (h5 : dp.toNatClampNeg + n.toNatClampNeg ≤ na)
    (hfit : t = 2 → ∀ j, NarOK 2 (gI σ b j)) (hel : t = 7 → ∀ j, elOK g σ (gR g.1 σ b j))
    (hz : zn σ' = zn σ) (hu : zu σ' = zu σ) (hkk : ∀ b, kd g.1 σ' b = kd g.1 σ b) (hcc : ∀ b, b ≠ a → cellOf G g.1 σ' b = cellOf G g.1 σ b) (helv : ∀ i, elv G g.1 σ' a t i = va_cpy (elv G g.1 σ b t) (elv G g.1 σ a t) sp.toNatClampNeg dp.toNatClampNeg n.toNatClampNeg i)
    (hdg : decode cc pc = .ok (.invokestatic idx, 3))
    (kk : ∀ (H' : Heap) (locs' : List Loc), Hold G g.1 σ' H' → (∀ q ∈ locs', G.2.2.1 ≤ q.base) → W p l e R s m args below meth c H' locs' cells slots Q (F0 m (pc + 3) ls (st.map (cv G)))) : W p l e R s m args below meth c H locs cells slots Q (F0 m pc ls (.int n :: .int dp :: .ref (G.2.2.1 + a) :: .int sp :: .ref (G.2.2.1 + b) :: st.map (cv G))) := by
  have nn : ∀ z : Int32, ¬ z < 0 → z.toInt = (z.toNatClampNeg : Int) := by
    intro z hz
    have hz0 : (0 : Int) ≤ z.toInt := by
      have := Int32.not_lt.mp hz
      simpa using Int32.le_iff_toInt_le.mp this
    show z.toInt = ((z.toInt.toNat : Nat) : Int)
    omega
  have hfr := am_fr1 F hdp
  have hml := F.2.2.1
  have hc0 := am_arr hH hkb (by omega) (by omega)
  have hc1 := am_arr hH hka (by omega) (by omega)
  obtain ⟨-, k0, hk0, cm0, hkk0⟩ := am_isArr F (t := t) (by omega) nb (elv G g.1 σ b t)
  obtain ⟨-, k1, hk1, cm1, hkk1⟩ := am_isArr F (t := t) (by omega) na (elv G g.1 σ a t)
  have hRA := am_RA F (t := t) (by omega)
  have hel2 : t = 7 → ∀ (j y : Nat), gR g.1 σ b j = some (.inl y) → va_Any "java/lang/Object" s H (G.2.2.1 + y) := by
    intro ht j y hy
    have he := hel ht j
    rw [hy] at he
    obtain ⟨cn, hkd, hcn⟩ := isOb_spec (q := kd g.1 σ y) he
    obtain ⟨r9, hr9, cellV, q1, q2, q3, -⟩ := am_obj hH hkd
    obtain ⟨D, T9, N9⟩ := r9
    have hor : D = "java/lang/Object" ∨ Cond.castable D "java/lang/Object" ∈ lw_tbl := by
      have hmem : cn < 23 := by simp at hcn; omega
      exact obj_cast cn hmem _ _ _ hr9
    obtain ⟨cD, cC, g1, g2, g3⟩ := am_asg F hr9 hor
    have hKv := (F.2.2.2.2.2.1.1.1 _ _ hr9).2
    cases hKv.1.symm.trans g1
    obtain ⟨kC, hkC, -⟩ := hKv.2
    exact ⟨cellV, q1, by rw [q3]; rfl, ⟨kC, by rw [q2]; exact hkC⟩, fun comp hcomp => by rw [q2]; cases hcomp.symm.trans g2; exact g3⟩
  have hloc : ((st.map (cv G)).map fun v => v.category).sum + (nativeFrameWords "java/lang/System" "arraycopy" 5 + 11) ≤ R.locals := by
    obtain ⟨-, -, -, -, -, -, -, ⟨-, -, r3, r4⟩, -⟩ := F
    rw [cv_scat]
    have hw : nativeFrameWords "java/lang/System" "arraycopy" 5 ≤ 20 := by decide
    omega
  obtain ⟨hx, hb, -, hown, hts, -, -⟩ := F
  intro T hT X
  obtain ⟨vm', X', step⟩ := X.arraycopy hx hown (hts _ w1) (hts _ w2) (hts _ w3) (hts _ w4) (src := G.2.2.1 + b) (dst := G.2.2.1 + a) (cs := arrV (G.2.1 t) nb (elv G g.1 σ b t)) (cd := arrV (G.2.1 t) na (elv G g.1 σ a t)) (srcPos := sp) (destPos := dp) (n := n) (by rw [hT]; exact hc0) (by rw [hT]; exact hc1)
    (fun _ h => by cases h) (fun _ h => by cases h) (fun h => by cases h) (fun h => by cases h) hk0 hk1 hkk0 hkk1 (by rcases ht with rfl | rfl <;> simp [tyOf, refKind]) h1 h2 h3
    (by rw [nn sp h1, nn n h3, arrV_size]; omega)
    (by rw [nn dp h2, nn n h3, arrV_size]; omega)
    (fun vm₁ hal i hi => by
      have e : (arrV (G.2.1 t) nb (elv G g.1 σ b t)).slots.getD (sp.toNatClampNeg + i) .null = elv G g.1 σ b t (sp.toNatClampNeg + i) := by
        rw [Array.getD_eq_getD_getElem?, arrV_read _ _ (by omega)]
        rfl
      rw [e]
      rcases ht with rfl | rfl
      · exact ⟨(hfit rfl (sp.toNatClampNeg + i)).2, trivial⟩
      · show fits _ (rv G (gR g.1 σ b (sp.toNatClampNeg + i))) = true ∧ _
        cases hy : gR g.1 σ b (sp.toNatClampNeg + i) with
        | none => exact ⟨rfl, by rw [show elv G g.1 σ b 7 (sp.toNatClampNeg + i) = rv G (gR g.1 σ b (sp.toNatClampNeg + i)) from rfl, hy]; exact trivial⟩
        | some y =>
          cases y with
          | inr y =>
            have he := hel rfl (sp.toNatClampNeg + i)
            rw [hy] at he
            exact he.elim
          | inl y =>
            obtain ⟨cellV, g1, g2, ⟨kC, hkC⟩, hasg⟩ := hel2 rfl _ y hy
            obtain ⟨kA, comp, r1, r2, r3, -⟩ := hRA
            cases hk1.symm.trans r1
            cases hkk1.symm.trans r2
            obtain ⟨kE, hkE, -⟩ := Vm.findClass_spec r3
            obtain ⟨kC', hkC', -⟩ := hal.2.2 _ _ hkC
            obtain ⟨kE', hkE', -⟩ := hal.2.2 _ _ hkE
            refine ⟨rfl, ?_⟩
            rw [show elv G g.1 σ b 7 (sp.toNatClampNeg + i) = rv G (gR g.1 σ b (sp.toNatClampNeg + i)) from rfl, hy]
            refine ⟨cellV, (show T.heap[G.2.2.1 + y]? = some cellV by rw [hT]; exact g1), (fun q h => by rw [h] at g2; cases g2), ⟨kC', hkC'⟩, ⟨kE', hkE'⟩, ?_⟩
            show vm₁.assignable _ _ = true
            rw [hal.assignable]
            exact hasg _ r3)
    (g := F0 m pc ls (.int n :: .int dp :: .ref (G.2.2.1 + a) :: .int sp :: .ref (G.2.2.1 + b) :: st.map (cv G))) rfl (by rw [hml, hls]) (rest := st.map (cv G)) rfl (by rw [hb]; exact hdg) hfr (by show 2 * 0 + _ + _ ≤ _; omega)
  have e1 : copied (arrV (G.2.1 t) nb (elv G g.1 σ b t)) (arrV (G.2.1 t) na (elv G g.1 σ a t)) sp dp n = arrV (G.2.1 t) na (elv G g.1 σ' a t) := by
    have := va_copied (fun z : Value => z) (G.2.1 t) (G.2.1 t) (n0 := nb) (n1 := na) (dp := dp.toNatClampNeg) (elv G g.1 σ b t) (elv G g.1 σ a t) h4
    rw [show elv G g.1 σ' a t = va_cpy (elv G g.1 σ b t) (elv G g.1 σ a t) sp.toNatClampNeg dp.toNatClampNeg n.toNatClampNeg from funext helv]
    exact this
  rw [e1] at X' step
  have hl9 : G.2.2.1 + a < H.size := (Array.getElem?_eq_some_iff.mp hc1).1
  have hheap : ((T.setVm vm').setCell (G.2.2.1 + a) (arrV (G.2.1 t) na (elv G g.1 σ' a t))).heap = H.setIfInBounds (G.2.2.1 + a) (arrV (G.2.1 t) na (elv G g.1 σ' a t)) := by rw [← hT]; rfl
  have oq : ∀ q : Nat, q ≠ G.2.2.1 + a → (H.setIfInBounds (G.2.2.1 + a) (arrV (G.2.1 t) na (elv G g.1 σ' a t)))[q]? = H[q]? := fun q hq => by simp [Array.getElem?_setIfInBounds, Ne.symm hq]
  have hself : (H.setIfInBounds (G.2.2.1 + a) (arrV (G.2.1 t) na (elv G g.1 σ' a t)))[G.2.2.1 + a]? = some (arrV (G.2.1 t) na (elv G g.1 σ' a t)) := by simp [Array.getElem?_setIfInBounds, hl9]
  have hH2 : Hold G g.1 σ' (H.setIfInBounds (G.2.2.1 + a) (arrV (G.2.1 t) na (elv G g.1 σ' a t))) := by
    refine hH.upd a hz hu hkk hcc (by simp) oq ?_ ?_
    · rw [hself, hc1]; simp [arrV_size]
    · obtain ⟨t, rfl⟩ : ∃ t', t = t' + 1 := ⟨t - 1, by omega⟩
      have hc : cellOf G g.1 σ' a = .inl (G.2.1 (t+1), na, aval G g.1 σ' a (t+1)) := by simp only [cellOf, hkk, hka]
      rw [hc]
      show _ = some (vp_cell (G.2.1 (t+1)) (na, aval G g.1 σ' a (t+1)))
      rw [vp_cell_elv _ _ _ _ _ _ _ (by omega)]
      exact hself
  obtain ⟨t9, a1, b1⟩ := kk _ _ hH2 (fun q hq => by
      rcases List.mem_append.mp hq with h | h
      · exact hL q h
      · obtain ⟨z, -, hz⟩ := List.mem_map.mp h
        rw [← hz]
        exact Nat.le_add_right _ _) _ hheap X'
  exact ⟨t9, step t9 a1, b1⟩
end Snd
/-! arrays of arrays of ints, while the constructors run -/
theorem arrV_congr {c : ClassId} {N : Nat} {f h : Nat → Value} (e : ∀ j, j < N → f j = h j) : arrV c N f = arrV c N h := by
  unfold arrV
  have : (fun j : Fin N => f j.val) = (fun j : Fin N => h j.val) := funext fun j => e j.val j.isLt
  rw [this]
theorem outerC_arr (c : ClassId) (N h0 : Nat) : ∀ i, Jvm.Free.Multi.outerC c N h0 i = arrV c N (fun j => if j < i then .ref (h0 + 1 + j) else .null)
  | 0 => by
    show ({ cls := c, slots := Array.replicate N .null, vm := .none } : Cell) = _
    rw [arrV_new]
    congr 1
  | i+1 => by
    show (Jvm.Free.Multi.outerC c N h0 i).setSlot i (.ref (h0 + 1 + i)) = _
    rw [outerC_arr c N h0 i, arrV_store]
    congr 1
    funext j
    show (if j = i then Value.ref (h0 + 1 + i) else (if j < i then Value.ref (h0 + 1 + j) else Value.null)) = (if j < i + 1 then Value.ref (h0 + 1 + j) else Value.null)
    by_cases h : j = i
    · subst h; simp
    · by_cases h2 : j < i
      · rw [if_neg h, if_pos h2, if_pos (by omega)]
      · rw [if_neg h, if_neg h2, if_neg (by omega)]
theorem fill_tot (s : State) (c comp : ClassId) (N M : Nat) (dv : Value) : ∀ i, tot (Jvm.Free.Multi.fill s c comp N M dv i).heap = tot s.heap + N + i * M
  | 0 => by
    show tot (s.heap.push _) = _
    rw [tot_push]
    simp [Jvm.Free.Multi.outerC]
  | i+1 => by
    have ih := fill_tot s c comp N M dv i
    obtain ⟨f1, f2, -, -⟩ := Jvm.Free.Multi.fill_facts s c comp N M dv i
    obtain ⟨g1, g2, -, -⟩ := Jvm.Free.Multi.fill_facts s c comp N M dv (i+1)
    have e : tot (Jvm.Free.Multi.fill s c comp N M dv (i+1)).heap = tot ((Jvm.Free.Multi.fill s c comp N M dv i).heap.push (Jvm.Free.Multi.innerC comp M dv)) := by
      apply tot_eq
      intro a
      by_cases ha : a = s.heap.size
      · subst ha
        rw [g2, Array.getElem?_push, if_neg (by omega), f2]
        simp [(Jvm.Free.Multi.outerC_facts c N s.heap.size (i+1)).2.2, (Jvm.Free.Multi.outerC_facts c N s.heap.size i).2.2]
      · show (((((Jvm.Free.Multi.fill s c comp N M dv i).pushCell (Jvm.Free.Multi.innerC comp M dv)).setCell s.heap.size (Jvm.Free.Multi.outerC c N s.heap.size (i + 1))).heap)[a]?).map _ = _
        rw [State.heap_setCell_other (Ne.symm ha)]
        rfl
    rw [e, tot_push, ih]
    simp [Jvm.Free.Multi.innerC, Nat.succ_mul]
    omega
theorem fixRun_at : ∀ (n a m : Nat), fixRun n a m = true → ∀ j, j < n → a + j < NF ∧ fixK (a + j) = (5, m)
  | 0, _, _, _, j, hj => absurd hj (Nat.not_lt_zero j)
  | n+1, a, m, h, j, hj => by
    unfold fixRun at h
    rw [Bool.and_eq_true, Bool.and_eq_true, Bool.and_eq_true] at h
    obtain ⟨⟨h1, h2, h3⟩, h4⟩ := h
    cases j with
    | zero => exact ⟨Nat.le_of_ble_eq_true h1, Prod.ext (Nat.eq_of_beq_eq_true h2) (Nat.eq_of_beq_eq_true h3)⟩
    | succ j =>
      have := fixRun_at n (a+1) m h4 j (by omega)
      rw [show a + (j + 1) = a + 1 + j by omega]
      exact this
theorem kd_f {s : AS} {a : Nat} (h : a < NF) : kd false s a = (match Nat.ble (zn s) a with
    | true => (99, 0)
    | false => fixK a) := by
  unfold kd
  rw [show Nat.ble NF a = false from by rw [Bool.eq_false_iff]; intro q; have := Nat.le_of_ble_eq_true q; omega]
  rfl
section Snd
variable {p : Program} {l : Launch} {e : Env} {R : Room} {s : State} {m : MethodId} {args : Array Value} {below : List Frame} {meth : Method} {c : Code} {H : Heap} {locs : List Loc} {cells slots : Nat} {Q : State → Prop}
variable {G : CX} {g : GM} {own : String} {cc : ByteArray} {nL d : Nat} {s0 σ : AS} {ini : Bool} {pc : Nat} {ls : Array Slot} {rest : List Value}
theorem am_multi (F : WFx p l R s m args meth c G g own cc nL d s0 ini) (hH : Hold G g.1 σ H) (hg : g.1 = false) {idx n k : Nat} (hcl : Cond.classLink own idx "[[I" ∈ lw_all) (h1 : zn σ < NF) (h2 : fixK (zn σ) = (9, n)) (h3 : fixRun n (zn σ + 1) k = true) (hn9 : n ≤ 100) (hk9 : k ≤ 100) (hroom : zn σ + 1 + n ≤ CMAX ∧ zu σ + n + n * k ≤ SMAX) (hdg : decode cc pc = .ok (.multianewarray idx 2, 4))
    (kk : ∀ (H' : Heap) (cells' slots' : Nat), Hold G g.1 (nw2 σ n k) H' → W p l e R s m args below meth c H' locs cells' slots' Q (F0 m (pc + 4) ls (.ref (G.2.2.1 + zn σ) :: rest))) : W p l e R s m args below meth c H locs cells slots Q (F0 m pc ls (.int (nI k) :: .int (nI n) :: rest)) := by
  refine Wt F hH fun hle => ?_
  have hR9 : s.vm.findClass ("[" ++ (FieldType.array .int).toString) = some (G.2.1 9) := am_RA F (t := 9) (by omega)
  have hR5 : s.vm.findClass "[I" = some (G.2.1 5) := am_RA F (t := 5) (by omega)
  obtain ⟨hx, hb, -, hown, hts, ⟨hK, hnw, hold, hext⟩, -, ⟨r1, r2, -⟩, -, -⟩ := F
  have ar5 : Cond.arrayClass .int ∈ lw_all := q430
  have cn : (nI n).toNatClampNeg = n := nI_clamp (by omega)
  have ck : (nI k).toNatClampNeg = k := nI_clamp (by omega)
  have hroom9 := hH.2.2.2.2.1
  intro T hT X
  obtain ⟨vm₁, cA, comp, hW, hfA, hfC, -, -, X1, step⟩ := X.multianewarray2F hx (own := own) (index := idx) (ty := .int) hown (hts _ hcl) (hext.2.2.1.2.2) (hts _ ar5) (g := F0 m pc ls (.int (nI k) :: .int (nI n) :: rest)) rfl (by rw [hb]; exact hdg) (n := nI n) (k := nI k) (rest := rest) rfl
    (by show ¬ nI n < nI 0; exact nI_nlt (by omega) (by omega)) (by show ¬ nI k < nI 0; exact nI_nlt (by omega) (by omega)) (by rw [cn]; omega) (by rw [ck]; show k * 4 ≤ _; omega) (by rw [ck]; omega) rfl rfl (by rw [cn, r1]; omega) (by rw [cn, ck, r2]; omega)
  rw [cn, ck] at X1 step
  cases hfA.symm.trans hR9
  cases hfC.symm.trans hR5
  obtain ⟨f1, f2, -, -⟩ := Jvm.Free.Multi.fill_facts (T.setVm vm₁) (G.2.1 9) (G.2.1 5) n k (defaultValue .int) n
  have hTs : (T.setVm vm₁).heap = H := hT
  have f3 := fill_tot (T.setVm vm₁) (G.2.1 9) (G.2.1 5) n k (defaultValue .int) n
  have f4 := fun j hj => Jvm.Free.Multi.fill_inner (T.setVm vm₁) (G.2.1 9) (G.2.1 5) n k (defaultValue .int) n j hj
  have f5 := fun a (ha : a < (T.setVm vm₁).heap.size) => Jvm.Free.Multi.fill_old (T.setVm vm₁) (G.2.1 9) (G.2.1 5) n k (defaultValue .int) (a := a) ha n
  rw [hTs] at f1 f2 f3 f4 f5
  have hH' : Hold G g.1 (nw2 σ n k) (Jvm.Free.Multi.fill (T.setVm vm₁) (G.2.1 9) (G.2.1 5) n k (defaultValue .int) n).heap := by
    have e1 := hH.1
    have hz : zn (nw2 σ n k) = zn σ + 1 + n := rfl
    have hu : zu (nw2 σ n k) = zu σ + n + n * k := rfl
    rw [hg] at hH ⊢
    refine ⟨by rw [f1, hz]; omega, by rw [f3, hu, hH.2.1]; omega, fun a ha => ?_, fun q => by (first | cases q | (rw [hg] at q; cases q)), by rw [hz, hu]; exact hroom, fun b hb => ?_⟩
    · rw [f5 a (by omega)]
      exact hH.2.2.1 a ha
    · by_cases hb0 : b < zn σ
      · have hkd : kd false (nw2 σ n k) b = kd false σ b := by
          unfold kd
          split
          · rfl
          · rw [show Nat.ble (zn (nw2 σ n k)) b = false from by rw [Bool.eq_false_iff]; intro q; have := Nat.le_of_ble_eq_true q; omega, show Nat.ble (zn σ) b = false from by rw [Bool.eq_false_iff]; intro q; have := Nat.le_of_ble_eq_true q; omega]
        have hc : cellOf G false (nw2 σ n k) b = cellOf G false σ b := by
          refine cellOf_congr hkd ?_ ?_ ?_
          · funext j; show (if zn σ ≤ b ∧ b ≤ zn σ + n then (0 : Int32) else σ.1 b j) = σ.1 b j; rw [if_neg (by omega)]
          · funext j; show (if zn σ ≤ b ∧ b ≤ zn σ + n then (0 : Int64) else σ.2.1 b j) = σ.2.1 b j; rw [if_neg (by omega)]
          · funext j; show (if b = zn σ then (some (Sum.inl (zn σ + 1 + j)) : AR) else if zn σ ≤ b ∧ b ≤ zn σ + n then none else σ.2.2.1 b j) = σ.2.2.1 b j; rw [if_neg (by omega), if_neg (by omega)]
        rw [hc]
        rw [hkd] at hb
        exact (hH.2.2.2.2.2 b hb).kept (f5 _ (by show G.2.2.1 + b < _; omega))
      · by_cases hb1 : b = zn σ
        · subst hb1
          have hkd : kd false (nw2 σ n k) (zn σ) = (9, n) := by
            rw [kd_f h1, hz, show Nat.ble (zn σ + 1 + n) (zn σ) = false from by rw [Bool.eq_false_iff]; intro q; have := Nat.le_of_ble_eq_true q; omega]
            exact h2
          have hc : cellOf G false (nw2 σ n k) (zn σ) = .inl (G.2.1 9, n, aval G false (nw2 σ n k) (zn σ) 9) := by simp only [cellOf, hkd]
          rw [hc]
          show _ = some (vp_cell (G.2.1 9) (n, aval G false (nw2 σ n k) (zn σ) 9))
          rw [vp_cell_elv _ _ _ _ _ _ _ (by omega)]
          have f2' : (Jvm.Free.Multi.fill (T.setVm vm₁) (G.2.1 9) (G.2.1 5) n k (defaultValue .int) n).heap[G.2.2.1 + zn σ]? = some (Jvm.Free.Multi.outerC (G.2.1 9) n (G.2.2.1 + zn σ) n) := by rw [← e1]; exact f2
          rw [f2', outerC_arr]
          congr 1
          apply arrV_congr
          intro j hj
          rw [if_pos hj]
          show _ = rv G (gR false (nw2 σ n k) (zn σ) j)
          have : gR false (nw2 σ n k) (zn σ) j = (some (Sum.inl (zn σ + 1 + j)) : AR) := by
            show (if zn σ = zn σ then (some (Sum.inl (zn σ + 1 + j)) : AR) else (if zn σ ≤ zn σ ∧ zn σ ≤ zn σ + n then none else σ.2.2.1 (zn σ) j)) = _
            rw [if_pos rfl]
          rw [this]
          show Value.ref (G.2.2.1 + zn σ + 1 + j) = Value.ref (G.2.2.1 + (zn σ + 1 + j))
          rw [show G.2.2.1 + zn σ + 1 + j = G.2.2.1 + (zn σ + 1 + j) by omega]
        · by_cases hb2 : b ≤ zn σ + n
          · obtain ⟨j, hj⟩ : ∃ j, b = zn σ + 1 + j := ⟨b - zn σ - 1, by omega⟩
            have hjn : j < n := by omega
            obtain ⟨k1, k2⟩ := fixRun_at n (zn σ + 1) k h3 j hjn
            subst hj
            have hkd : kd false (nw2 σ n k) (zn σ + 1 + j) = (5, k) := by
              rw [kd_f k1, hz, show Nat.ble (zn σ + 1 + n) (zn σ + 1 + j) = false from by rw [Bool.eq_false_iff]; intro q; have := Nat.le_of_ble_eq_true q; omega]
              exact k2
            have hc : cellOf G false (nw2 σ n k) (zn σ + 1 + j) = .inl (G.2.1 5, k, aval G false (nw2 σ n k) (zn σ + 1 + j) 5) := by simp only [cellOf, hkd]
            rw [hc]
            show _ = some (vp_cell (G.2.1 5) (k, aval G false (nw2 σ n k) (zn σ + 1 + j) 5))
            rw [vp_cell_elv _ _ _ _ _ _ _ (by omega)]
            have f4' := f4 j hjn
            rw [e1] at f4'
            rw [show G.2.2.1 + (zn σ + 1 + j) = G.2.2.1 + zn σ + 1 + j by omega, f4']
            show some ({ cls := G.2.1 5, slots := Array.replicate k (defaultValue .int), vm := .none } : Cell) = _
            rw [arrV_new]
            congr 2
            funext i
            show Value.int 0 = Value.int (gI (nw2 σ n k) (zn σ + 1 + j) i)
            have : gI (nw2 σ n k) (zn σ + 1 + j) i = 0 := by
              show (if zn σ ≤ zn σ + 1 + j ∧ zn σ + 1 + j ≤ zn σ + n then (0 : Int32) else _) = 0
              rw [if_pos (by omega)]
            rw [this]
          · exfalso
            revert hb
            by_cases hbn : b < NF
            · rw [kd_f hbn, hz, Nat.ble_eq_true_of_le (by omega : zn σ + 1 + n ≤ b)]
              simp
            · intro hb
              have hkd : kd false (nw2 σ n k) b = kd false σ b := by
                unfold kd
                rw [Nat.ble_eq_true_of_le (by omega : NF ≤ b)]
                rfl
              rw [hkd] at hb
              have := (hH.2.2.2.2.2 b hb).lt
              have : G.2.2.1 + b < H.size := this
              omega
  obtain ⟨t9, a1, b1⟩ := kk _ _ _ hH' _ rfl X1
  have hsz : T.heap.size = G.2.2.1 + zn σ := by rw [hT]; exact hH.1
  rw [hsz] at step
  exact ⟨t9, step t9 a1, b1⟩
end Snd
