/-! arrays, new cells -/
def elv (G : CX) (ph : Bool) (s : AS) (a t : Nat) : Nat → Value := fun j => match t with
  | 0 => .int (gI s a j)
  | 1 => .int (gI s a j)
  | 2 => .int (gI s a j)
  | 3 => .int (gI s a j)
  | 4 => .int (gI s a j)
  | 5 => .int (gI s a j)
  | 6 => .long (gL s a j)
  | _ => rv G (gR ph s a j)
theorem vp_cell_elv (G : CX) (ph : Bool) (s : AS) (a t n : Nat) (cA : ClassId) (ht : t ≠ 0) : vp_cell cA (n, aval G ph s a t) = arrV cA n (elv G ph s a t) := by
  match t, ht with
  | 1, _ => rfl
  | 2, _ => rfl
  | 3, _ => rfl
  | 4, _ => rfl
  | 5, _ => rfl
  | 6, _ => rfl
  | _+7, _ => rfl
theorem vp_nar_eq {t : Nat} (h : t = 1 ∨ t = 2 ∨ t = 3) (x : Int32) : narrow (tyOf t) (.int x) = .int (vp_nar (tyOf t) x) := by
  rcases h with rfl | rfl | rfl <;> rfl
theorem fixR_dyn {a : Nat} (h : NF ≤ a) (k : Nat) : fixR a k = none := by
  unfold NF at h
  unfold fixR
  split <;> first | rfl | omega
theorem gR_nw {ph : Bool} {s : AS} {q : Nat × Nat} {n : Nat} (hp : ph = true → NF ≤ zn s) (j : Nat) : gR ph (nw s q n) (zn s) j = none := by
  cases ph
  · simp [gR, nw]
  · simp [gR, nw, rfx, fixR_dyn (hp rfl)]
section Snd
variable {p : Program} {l : Launch} {e : Env} {R : Room} {s : State} {m : MethodId} {args : Array Value} {below : List Frame} {meth : Method} {c : Code} {H : Heap} {locs : List Loc} {cells slots : Nat} {Q : State → Prop}
variable {G : CX} {g : GM} {own : String} {cc : ByteArray} {nL d : Nat} {s0 σ : AS} {ini : Bool} {pc : Nat} {ls : Array Slot} {rest : List Value}
theorem am_arr (hH : Hold G g.1 σ H) {a t n : Nat} (hkd : kd g.1 σ a = (t, n)) (h1 : 1 ≤ t) (h2 : t ≤ 10) : H[G.2.2.1 + a]? = some (arrV (G.2.1 t) n (elv G g.1 σ a t)) := by
  have h := hH.2.2.2.2.2 a (by rw [hkd]; exact h2)
  obtain ⟨t, rfl⟩ : ∃ t', t = t' + 1 := ⟨t - 1, by omega⟩
  have hc : cellOf G g.1 σ a = .inl (G.2.1 (t+1), n, aval G g.1 σ a (t+1)) := by simp only [cellOf, hkd]
  rw [hc] at h
  have h : H[G.2.2.1 + a]? = some (vp_cell (G.2.1 (t+1)) (n, aval G g.1 σ a (t+1))) := h
  rw [h, vp_cell_elv _ _ _ _ _ _ _ (by omega)]
theorem am_isArr (F : WFx p l R s m args meth c G g own cc nL d s0 ini) {t : Nat} (h2 : t ≤ 10) (n : Nat) (z : Nat → Value) : s.isArrayOf (arrV (G.2.1 t) n z) (tyOf t) := by
  obtain ⟨-, -, -, -, -, ⟨hK, -, -, -⟩, -⟩ := F
  have h := (hK.2 t (G.2.1 t, tyOf t) (by rw [tysL, List.getElem?_map, List.getElem?_range (by omega)]; rfl)).1
  exact h n z
theorem am_inb {j : Int32} {n : Nat} {cA : ClassId} {z : Nat → Value} (h : vp_in j n) : ¬ (j < 0 ∨ (arrV cA n z).slots.size ≤ j.toNatClampNeg) := by rw [arrV_size]; exact h
theorem am_ilt {j : Int32} {n : Nat} (h : vp_in j n) : j.toNatClampNeg < n := Nat.not_le.mp fun q => h (Or.inr q)
/-- a store into a cell that is an array -/
theorem am_stH (hH : Hold G g.1 σ H) {a t n j : Nat} (hkd : kd g.1 σ a = (t, n)) (h1 : 1 ≤ t) (h2 : t ≤ 10) {v : Value} {σ' : AS} (hz : zn σ' = zn σ) (hu : zu σ' = zu σ) (hkk : ∀ b, kd g.1 σ' b = kd g.1 σ b) (hcc : ∀ b, b ≠ a → cellOf G g.1 σ' b = cellOf G g.1 σ b)
    (helv : ∀ i, elv G g.1 σ' a t i = if i = j then v else elv G g.1 σ a t i) {H' : Heap} (e1 : H'[G.2.2.1 + a]? = some ((arrV (G.2.1 t) n (elv G g.1 σ a t)).setSlot j v)) (e2 : H'.size = H.size) (e3 : ∀ q, q ≠ G.2.2.1 + a → H'[q]? = H[q]?) : Hold G g.1 σ' H' := by
  refine hH.upd a hz hu hkk hcc e2 e3 (by rw [e1, am_arr hH hkd h1 h2]; simp [setSlot_size]) ?_
  obtain ⟨t, rfl⟩ : ∃ t', t = t' + 1 := ⟨t - 1, by omega⟩
  have hc : cellOf G g.1 σ' a = .inl (G.2.1 (t+1), n, aval G g.1 σ' a (t+1)) := by simp only [cellOf, hkk, hkd]
  rw [hc]
  show H'[G.2.2.1 + a]? = some (vp_cell (G.2.1 (t+1)) (n, aval G g.1 σ' a (t+1)))
  rw [vp_cell_elv _ _ _ _ _ _ _ (by omega), e1, arrV_store]
  congr 2
  funext i
  exact (helv i).symm
theorem am_new (F : WFx p l R s m args meth c G g own cc nL d s0 ini) (hH : Hold G g.1 σ H) {idx cn n : Nat} {C : String} {T : u_T} {ty : Nat → FieldType} (hcf : CF cn C T n ty) (hcl : Cond.classLink own idx C ∈ lw_all) (hins : Cond.instantiable C n ∈ lw_all) (hini : Cond.initialized C ∈ lw_all) (hroom : zn σ + 1 ≤ CMAX ∧ zu σ + n ≤ SMAX)
    (hkd : kd g.1 (nw σ (0, cn) n) (zn σ) = (0, cn)) (hdg : decode cc pc = .ok (.new idx, 3))
    (kk : ∀ (H' : Heap) (cells' slots' : Nat), Hold G g.1 (nw σ (0, cn) n) H' → W p l e R s m args below meth c H' locs cells' slots' Q (F0 m (pc + 3) ls (.ref (G.2.2.1 + zn σ) :: rest))) : W p l e R s m args below meth c H locs cells slots Q (F0 m pc ls rest) := by
  refine Wt F hH fun hle => ?_
  obtain ⟨hx, hb, -, hown, hts, ⟨hK, hnw, hold, hext⟩, -, ⟨r1, r2, -⟩, -, -⟩ := F
  obtain ⟨c1, c2, c3, c4, c5, c6⟩ := hcf
  have hKn := hK.1 cn _ c1
  refine W.newc hx hb hown (hts _ hcl) (hts _ hins) (hts _ hini) rfl hdg (by rw [r1]; omega) (by rw [r2]; omega) fun cC kC k1 k2 k3 k4 => ?_
  have hcC : cC = G.1.1 cn := Option.some.inj (k1.symm.trans hKn.2.1)
  subst hcC
  have hH' : Hold G g.1 (nw σ (0, cn) n) (H.push { cls := G.1.1 cn, slots := kC.instanceTypes.map defaultValue, vm := .none }) := by
    refine hH.push (by simp [k4]) hroom ?_
    have hc : cellOf G g.1 (nw σ (0, cn) n) (zn σ) = .inr (cn, (List.range (nfc cn)).map (fun k => fval G g.1 (nw σ (0, cn) n) (zn σ) k (ftc cn k))) := by simp only [cellOf, hkd]
    rw [hc]
    refine ⟨_, c1, (u_born ty hts c4 hKn k2 (o := G.2.2.1 + zn σ) (H := H.push { cls := G.1.1 cn, slots := kC.instanceTypes.map defaultValue, vm := .none }) ?_ c5).to fun j hj => ?_⟩
    · rw [← hH.1]; simp [blank]
    · have hj' : j < nfc cn := by rw [c2]; exact hj
      rw [vp_V_map hj', (c3 j hj).1]
      have g3 : gR g.1 (nw σ (0, cn) n) (zn σ) j = none := gR_nw (fun h => hH.2.2.2.1 h) j
      have g4 := (c3 j hj).2
      have g1 : gI (nw σ (0, cn) n) (zn σ) j = 0 := by simp [gI, nw]
      have g2 : gL (nw σ (0, cn) n) (zn σ) j = 0 := by simp [gL, nw]
      cases hty : ty j <;> first | (simp only [tcd, fval, defaultValue, g1, g2, g3]; done) | (simp only [tcd, fval, defaultValue, g1, g2, g3]; rfl) | (rw [hty] at g4; simp [tcd] at g4)
  have hk := kk _ (zn σ - zn s0 + 1) (zu σ - zu s0 + n) hH'
  rw [← hH.1] at hk
  exact hk
end Snd
