/-! how writes and new cells move what an abstract state says -/
theorem vp_V_map {f : Nat → Value} {n j : Nat} (h : j < n) : vp_V ((List.range n).map f) j = f j := by
  simp [vp_V, List.getD_eq_getElem?_getD, h]
theorem cellOf_congr {G : CX} {ph : Bool} {s s' : AS} {b : Nat} (hk : kd ph s' b = kd ph s b) (hI : gI s' b = gI s b) (hL : gL s' b = gL s b) (hR : gR ph s' b = gR ph s b) : cellOf G ph s' b = cellOf G ph s b := by
  simp only [cellOf, hk, fval, hI, hL, hR, aval]
theorem gI_sI_ne {s : AS} {a k b : Nat} {v : Int32} (h : b ≠ a) : gI (sI s a k v) b = gI s b := by
  funext j; simp [gI, sI, h]
theorem gI_sI {s : AS} {a k b j : Nat} {v : Int32} : gI (sI s a k v) b j = if b = a ∧ j = k then v else gI s b j := rfl
theorem gL_sL_ne {s : AS} {a k b : Nat} {v : Int64} (h : b ≠ a) : gL (sL s a k v) b = gL s b := by
  funext j; simp [gL, sL, h]
theorem gL_sL {s : AS} {a k b j : Nat} {v : Int64} : gL (sL s a k v) b j = if b = a ∧ j = k then v else gL s b j := rfl
theorem gR_sR_ne {ph : Bool} {s : AS} {a k b : Nat} {v : AR} (h : b ≠ a) : gR ph (sR s a k v) b = gR ph s b := by
  funext j
  cases ph <;> simp [gR, sR, rfx, h]
theorem gR_sR_at {ph : Bool} {s : AS} {a k j : Nat} {v : AR} (hf : (!ph || (fixR a k).isNone) = true) : gR ph (sR s a k v) a j = if j = k then v else gR ph s a j := by
  cases ph
  · simp [gR, sR]
  · by_cases h : j = k
    · subst h
      have h1 : fixR a j = none := by
        have : (fixR a j).isNone = true := hf
        cases hq : fixR a j with
        | none => rfl
        | some x => rw [hq] at this; simp at this
      simp [gR, sR, rfx, h1]
    · simp [gR, sR, rfx, h]
theorem Hold.upd {G : CX} {ph : Bool} {s s' : AS} {H H' : Heap} (h : Hold G ph s H) (a : Nat) (hz : zn s' = zn s) (hu : zu s' = zu s) (hk : ∀ b, kd ph s' b = kd ph s b) (hc : ∀ b, b ≠ a → cellOf G ph s' b = cellOf G ph s b)
    (h1 : H'.size = H.size) (h2 : ∀ q : Nat, q ≠ G.2.2.1 + a → H'[q]? = H[q]?) (h3 : (H'[G.2.2.1 + a]?).map (fun c => c.slots.size) = (H[G.2.2.1 + a]?).map (fun c => c.slots.size)) (h4 : va_at G.1 clT (G.2.2.1 + a, cellOf G ph s' a) H') : Hold G ph s' H' := by
  obtain ⟨e1, e2, e3, e4, e5, e6⟩ := h
  refine ⟨by rw [h1, e1, hz], ?_, fun q hq => ?_, by rw [hz]; exact e4, by rw [hz, hu]; exact e5, fun b hb => ?_⟩
  · rw [hu, ← e2]
    apply tot_eq
    intro q
    by_cases hq : q = G.2.2.1 + a
    · rw [hq]; exact h3
    · rw [h2 q hq]
  · rw [h2 q (by omega)]
    exact e3 q hq
  · by_cases hba : b = a
    · subst hba; exact h4
    · rw [hc b hba]
      rw [hk b] at hb
      exact (e6 b hb).kept (h2 _ (by show G.2.2.1 + b ≠ _; omega))
theorem setSlot_size (cell : Cell) (i : Nat) (v : Value) : (cell.setSlot i v).slots.size = cell.slots.size := by
  simp [Cell.setSlot]
theorem kd_nw_ne {ph : Bool} {s : AS} {q : Nat × Nat} {n b : Nat} (h : b ≠ zn s) : kd ph (nw s q n) b = kd ph s b := by
  have hz : zn (nw s q n) = zn s + 1 := rfl
  simp only [kd]
  split
  · show (if b = zn s then q else s.2.2.2.1 b) = _
    rw [if_neg h]
  · cases ph
    · simp only [hz]
      rcases Nat.lt_or_gt_of_ne h with h | h
      · rw [show Nat.ble (zn s + 1) b = false from by rw [Bool.eq_false_iff]; intro hh; have := Nat.le_of_ble_eq_true hh; omega, show Nat.ble (zn s) b = false from by rw [Bool.eq_false_iff]; intro hh; have := Nat.le_of_ble_eq_true hh; omega]
      · rw [show Nat.ble (zn s + 1) b = true from Nat.ble_eq_true_of_le (by omega), show Nat.ble (zn s) b = true from Nat.ble_eq_true_of_le (by omega)]
    · rfl
theorem cellOf_nw_ne {G : CX} {ph : Bool} {s : AS} {q : Nat × Nat} {n b : Nat} (h : b ≠ zn s) : cellOf G ph (nw s q n) b = cellOf G ph s b := by
  refine cellOf_congr (kd_nw_ne h) ?_ ?_ ?_
  · funext j; simp [gI, nw, h]
  · funext j; simp [gL, nw, h]
  · funext j; cases ph <;> simp [gR, nw, rfx, h]
theorem Hold.push {G : CX} {ph : Bool} {s : AS} {q : Nat × Nat} {n : Nat} {H : Heap} {cell : Cell} (h : Hold G ph s H) (hn : cell.slots.size = n) (hroom : zn s + 1 ≤ CMAX ∧ zu s + n ≤ SMAX)
    (h4 : va_at G.1 clT (G.2.2.1 + zn s, cellOf G ph (nw s q n) (zn s)) (H.push cell)) : Hold G ph (nw s q n) (H.push cell) := by
  obtain ⟨e1, e2, e3, e4, e5, e6⟩ := h
  have hz : zn (nw s q n) = zn s + 1 := rfl
  have hu : zu (nw s q n) = zu s + n := rfl
  refine ⟨by rw [Array.size_push, e1, hz]; omega, by rw [tot_push, e2, hu, hn]; omega, fun a ha => ?_, fun hp => by rw [hz]; have := e4 hp; omega, by rw [hz, hu]; exact hroom, fun b hb => ?_⟩
  · rw [Array.getElem?_push, if_neg (by omega)]
    exact e3 a ha
  · by_cases hba : b = zn s
    · subst hba; exact h4
    · rw [cellOf_nw_ne hba]
      rw [kd_nw_ne hba] at hb
      have hl := (e6 b hb).lt
      refine (e6 b hb).kept ?_
      show (H.push cell)[G.2.2.1 + b]? = _
      rw [Array.getElem?_push, if_neg (Nat.ne_of_lt hl)]
theorem kd_nw_at {ph : Bool} {s : AS} {q : Nat × Nat} {n : Nat} (hp : ph = true → NF ≤ zn s) (hq : ph = false → zn s < NF ∧ fixK (zn s) = q) : kd ph (nw s q n) (zn s) = q := by
  have hz : zn (nw s q n) = zn s + 1 := rfl
  simp only [kd]
  split
  · show (if zn s = zn s then q else _) = q
    rw [if_pos rfl]
  · rename_i hb
    cases ph
    · simp only [hz]
      rw [show Nat.ble (zn s + 1) (zn s) = false from by rw [Bool.eq_false_iff]; intro hh; have := Nat.le_of_ble_eq_true hh; omega]
      exact (hq rfl).2
    · have := hp rfl
      rw [Nat.ble_eq_true_of_le this] at hb
      cases hb
/-- the walk of one method: what stays fixed -/
def WFx (p : Program) (l : Launch) (R : Room) (s : State) (m : MethodId) (args : Array Value) (meth : Method) (c : Code) (G : CX) (g : GM) (own : String) (cc : ByteArray) (nL d : Nat) (s0 : AS) (ini : Bool) : Prop :=
  p.tables.exec = Jvm.exec ∧ c.code = cc ∧ c.maxLocals = nL ∧ s.vm.findClass own = some m.cls ∧ (∀ w ∈ lw_all, w.before args s = true) ∧ TF G g s ∧ (s.heap.size = G.2.2.1 + zn s0 ∧ tot s.heap = G.2.2.2.1 + zu s0) ∧
  (R.cells = CMAX - zn s0 ∧ R.slots = SMAX - zu s0 ∧ d ≤ R.frames ∧ 64 * d ≤ R.locals) ∧ (ini = true → meth.name = "<init>") ∧ l = l
abbrev Wk (p : Program) (l : Launch) (e : Env) (R : Room) (s : State) (m : MethodId) (args : Array Value) (below : List Frame) (meth : Method) (c : Code) (G : CX) (g : GM) (tab : List Ent) (nL : Nat) (Q : State → Prop) : KN :=
  fun i ls st σ => ∀ (H : Heap) (locs : List Loc) (la : Array Slot) (cells slots : Nat), Hold G g.1 σ H → (∀ q ∈ locs, G.2.2.1 ≤ q.base) → LsOK G la nL ls → W p l e R s m args below meth c H locs cells slots Q (F0 m (pcAt tab i) la (st.map (cv G)))
section Snd
variable {p : Program} {l : Launch} {e : Env} {R : Room} {s : State} {m : MethodId} {args : Array Value} {below : List Frame} {meth : Method} {c : Code} {H : Heap} {locs : List Loc} {cells slots : Nat} {Q : State → Prop}
variable {G : CX} {g : GM} {own : String} {cc : ByteArray} {nL d : Nat} {s0 σ : AS} {ini : Bool} {pc : Nat} {ls : Array Slot} {rest : List Value}
/-- the counters at their true numbers -/
theorem Wt (F : WFx p l R s m args meth c G g own cc nL d s0 ini) (hH : Hold G g.1 σ H) {gg : JFrame} (kk : (zn s0 ≤ zn σ ∧ zu s0 ≤ zu σ) → W p l e R s m args below meth c H locs (zn σ - zn s0) (zu σ - zu s0) Q gg) : W p l e R s m args below meth c H locs cells slots Q gg := by
  obtain ⟨-, -, -, -, -, -, ⟨f1, f2⟩, -⟩ := F
  refine W_grow fun g1 g2 => ?_
  have e1 := hH.1
  have e2 := hH.2.1
  have h1 : zn s0 ≤ zn σ := by omega
  have h2 : zu s0 ≤ zu σ := by omega
  exact W_tight (by omega) (by omega) (kk ⟨h1, h2⟩)
theorem am_obj (hH : Hold G g.1 σ H) {a cn : Nat} (hkd : kd g.1 σ a = (0, cn)) : ∃ r : vw_C, clT[cn]? = some r ∧ t_OB (G.2.2.1 + a) (G.1.1 cn) r.2.2 (G.1.2 cn) H (vp_V ((List.range (nfc cn)).map (fun k => fval G g.1 σ a k (ftc cn k)))) := by
  have h := hH.2.2.2.2.2 a (by rw [hkd]; exact Nat.zero_le _)
  have hc : cellOf G g.1 σ a = .inr (cn, (List.range (nfc cn)).map (fun k => fval G g.1 σ a k (ftc cn k))) := by simp only [cellOf, hkd]
  rw [hc] at h
  exact h
theorem am_get (F : WFx p l R s m args meth c G g own cc nL d s0 ini) (hH : Hold G g.1 σ H) {a cn idx f t : Nat} (hkd : kd g.1 σ a = (0, cn)) (hf : FLg own idx cn f t) (hdg : decode cc pc = .ok (.getfield idx, 3))
    (kk : W p l e R s m args below meth c H locs cells slots Q (F0 m (pc + 3) ls (fval G g.1 σ a f t :: rest))) : W p l e R s m args below meth c H locs cells slots Q (F0 m pc ls (.ref (G.2.2.1 + a) :: rest)) := by
  obtain ⟨hx, hb, -, hown, hts, ⟨hK, hnw, hold, hext⟩, -⟩ := F
  obtain ⟨C, T, N, ty, ⟨c1, c2, c3, c4, c5, c6⟩, hk, ht, hlk⟩ := hf
  obtain ⟨r, h1, cell, q1, q2, q3, q4⟩ := am_obj hH hkd
  have hr : r = (C, T, N) := Option.some.inj (h1.symm.trans c1)
  subst hr
  obtain ⟨hS, hfc, kC, hkC, hkind⟩ := hK.1 cn _ c1
  obtain ⟨cf, kf, fi, fd, hi, hsl⟩ := hS f hk
  have hv : cell.slots[fd.slot]? = some (fval G g.1 σ a f t) := by
    rw [hsl, q4 f hk, vp_V_map (by rw [c2]; exact hk), (c3 f hk).1, ht]
  rcases hlk with hlk | ⟨host, hlk⟩ | ⟨ref, hlk, hsm⟩
  · exact W.getf hx hb hown (hts _ hlk) hi (u_facts hfc hkC (u_lays hts c4 hk) hi).1 q1 (by rw [q3]; exact fun h => by cases h) hv rfl rfl hdg kk
  · exact va_Wgetf hx hb hown (va_Nw.use rfl (hnw _ hlk rfl)) hi (u_facts hfc hkC (u_lays hts c4 hk) hi).1 q1 (by rw [q3]; exact fun h => by cases h) hv rfl rfl hdg kk
  · exact W.getf hx hb hown (hts _ hlk) (u_same (hts _ hsm) _ hi) (u_facts hfc hkC (u_lays hts c4 hk) hi).1 q1 (by rw [q3]; exact fun h => by cases h) hv rfl rfl hdg kk
theorem am_put (F : WFx p l R s m args meth c G g own cc nL d s0 ini) (hH : Hold G g.1 σ H) {a cn idx f t : Nat} {fin : Bool} (hini : fin = true → ini = true) (hkd : kd g.1 σ a = (0, cn)) (hf : FL own idx cn f t fin) {v : Value} (hv : ∀ ty : FieldType, tcd ty = t → narrow ty v = v ∧ fits ty v = true) (hdg : decode cc pc = .ok (.putfield idx, 3))
    {σ' : AS} (hz : zn σ' = zn σ) (hu : zu σ' = zu σ) (hkk : ∀ b, kd g.1 σ' b = kd g.1 σ b) (hcc : ∀ b, b ≠ a → cellOf G g.1 σ' b = cellOf G g.1 σ b) (hfv : ∀ j, j < nfc cn → fval G g.1 σ' a j (ftc cn j) = if j = f then v else fval G g.1 σ a j (ftc cn j))
    (kk : ∀ (H' : Heap) (locs' : List Loc), Hold G g.1 σ' H' → (∀ q ∈ locs', q ∈ locs ∨ q.base = G.2.2.1 + a) → W p l e R s m args below meth c H' locs' cells slots Q (F0 m (pc + 3) ls rest)) : W p l e R s m args below meth c H locs cells slots Q (F0 m pc ls (v :: .ref (G.2.2.1 + a) :: rest)) := by
  obtain ⟨hx, hb, -, hown, hts, ⟨hK, hnw, hold, hext⟩, -, -, hin, -⟩ := F
  obtain ⟨C, T, N, ty, ⟨c1, c2, c3, c4, c5, c6⟩, hk, ht, hfin, hlk, hdecl⟩ := hf
  have hap := va_apart (own := own) hts c4 ty c5 c6 hK c1
  obtain ⟨r, h1, cell, q1, q2, q3, q4⟩ := am_obj hH hkd
  have hr : r = (C, T, N) := Option.some.inj (h1.symm.trans c1)
  subst hr
  obtain ⟨hS, hfc, kC, hkC, hkind⟩ := hK.1 cn _ c1
  obtain ⟨cf, kf, fi, fd, hi, hsl⟩ := hS f hk
  have hlay := hts _ (c4 _ (u_in_lay hk))
  have hst := (u_facts hfc hkC (u_lays hts c4 hk) hi).1
  obtain ⟨hn1, hn2⟩ := hv (ty f) ht
  have fin_ : ∀ (H' : Heap), H'[G.2.2.1 + a]? = some (cell.setSlot fd.slot v) → H'.size = H.size → (∀ q, q ≠ G.2.2.1 + a → H'[q]? = H[q]?) → Hold G g.1 σ' H' := by
    intro H' e1 e2 e3
    refine hH.upd a hz hu hkk hcc e2 e3 (by rw [e1, q1]; simp [setSlot_size]) ?_
    have hc : cellOf G g.1 σ' a = .inr (cn, (List.range (nfc cn)).map (fun k => fval G g.1 σ' a k (ftc cn k))) := by simp only [cellOf, hkk, hkd]
    rw [hc]
    rw [hsl] at e1
    refine ⟨_, c1, t_OB.to (V := updV (vp_V ((List.range (nfc cn)).map (fun k => fval G g.1 σ a k (ftc cn k)))) f v) ⟨_, e1, q2, q3, t_set q4 hap hk v⟩ (fun j hj => ?_)⟩
    have hj' : j < nfc cn := by rw [c2]; exact hj
    show (if j = f then v else vp_V _ j) = _
    rw [vp_V_map hj', vp_V_map hj', hfv j hj']
  have lc : ∀ q ∈ locs ++ [(⟨G.2.2.1 + a, fd.slot⟩ : Loc)], q ∈ locs ∨ q.base = G.2.2.1 + a := by
    intro q hq
    rcases List.mem_append.mp hq with hq | hq
    · exact Or.inl hq
    · simp at hq; subst hq; exact Or.inr rfl
  cases fin with
  | false =>
    unfold u_lay at hlay
    rw [if_neg (by rw [hfin]; decide)] at hlay
    have h6 := u_store hfc hkC hkind hlay hi (c5 f hk) hn1 hn2
    rcases hlk with hlk | ⟨host, hlk⟩ | ⟨ref, hlk, hsm⟩
    · exact W.putK hx hb (f := fd) ⟨hown, hts _ hlk, ⟨_, _, _, hi⟩, hst⟩ (by rw [q2]; exact h6) q1 q3 (by rw [hsl]; exact k2_hasslot (q4 f hk)) rfl rfl hdg fun H' e1 e2 e3 => kk H' _ (fin_ H' e1 e2 e3) lc
    · exact va_WputK hx hb (f := fd) hown (va_Nw.use rfl (hnw _ hlk rfl)) hi hst (by rw [q2]; exact h6) q1 q3 (by rw [hsl]; exact k2_hasslot (q4 f hk)) rfl rfl hdg fun H' e1 e2 e3 => kk H' _ (fin_ H' e1 e2 e3) lc
    · exact W.putK hx hb (f := fd) ⟨hown, hts _ hlk, ⟨_, _, _, u_same (hts _ hsm) _ hi⟩, hst⟩ (by rw [q2]; exact h6) q1 q3 (by rw [hsl]; exact k2_hasslot (q4 f hk)) rfl rfl hdg fun H' e1 e2 e3 => kk H' _ (fin_ H' e1 e2 e3) lc
  | true =>
    unfold u_lay at hlay
    rw [if_pos hfin] at hlay
    have hcf : m.cls = cf := by
      obtain ⟨_, _, c', _, _, _, -, -, hf', -, -, -, hown2, -⟩ := Cond.laysFinal_spec hlay
      have e1 : c' = cf := by have := hi.symm.trans hf'; simp at this; exact this.1.symm
      rw [hdecl rfl] at hown2
      rw [← e1]; exact Option.some.inj (hown.symm.trans hown2)
    have h6 := u_fits hfc hkC hkind (Or.inr hlay) hi (c5 f hk) hn1 hn2
    rcases hlk with hlk | ⟨host, hlk⟩ | ⟨ref, hlk, hsm⟩
    · exact W.putFinK hx hb hown (hts _ hlk) hi hst hcf (hin (hini rfl)) (by rw [q2]; exact h6) q1 q3 (by rw [hsl]; exact k2_hasslot (q4 f hk)) rfl rfl hdg fun H' e1 e2 e3 => kk H' _ (fin_ H' e1 e2 e3) lc
    · refine va_Wputf hx hb hown (va_Nw.use rfl (hnw _ hlk rfl)) hi hst (Or.inr ⟨hcf, hin (hini rfl)⟩) q1 (by rw [q3]; exact fun h => by cases h) (by rw [hsl]; exact k2_hasslot (q4 f hk)) h6.1 (by rw [q2, q3]; exact h6.2) rfl rfl hdg ?_
      have ha : G.2.2.1 + a < H.size := (Array.getElem?_eq_some_iff.mp q1).1
      refine kk _ _ (fin_ _ ?_ ?_ ?_) lc
      · simp [Array.getElem?_setIfInBounds, ha]
      · simp
      · intro q hq
        simp [Array.getElem?_setIfInBounds, Ne.symm hq]
    · exact W.putFinK hx hb hown (hts _ hlk) (u_same (hts _ hsm) _ hi) hst hcf (hin (hini rfl)) (by rw [q2]; exact h6) q1 q3 (by rw [hsl]; exact k2_hasslot (q4 f hk)) rfl rfl hdg fun H' e1 e2 e3 => kk H' _ (fin_ H' e1 e2 e3) lc
end Snd
