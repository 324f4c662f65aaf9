/-! THE MACHINE DOES WHAT THE ABSTRACT MACHINE SAYS -/
theorem cmp_bytes {atype : ArrayType} : componentBytes (newarray.typeOf atype) ≤ 8 := by cases atype <;> decide
theorem elv_nw {G : CX} {ph : Bool} {s : AS} {q : Nat × Nat} {n : Nat} (hp : ph = true → NF ≤ zn s) {t : Nat} (h1 : 1 ≤ t) (h2 : t ≤ 10) (j : Nat) : elv G ph (nw s q n) (zn s) t j = defaultValue (tyOf t) := by
  have g1 : gI (nw s q n) (zn s) j = 0 := by simp [gI, nw]
  have g2 : gL (nw s q n) (zn s) j = 0 := by simp [gL, nw]
  have g3 : gR ph (nw s q n) (zn s) j = none := gR_nw hp j
  match t, h1, h2 with
  | 1, _, _ => simp only [elv, g1]; rfl
  | 2, _, _ => simp only [elv, g1]; rfl
  | 3, _, _ => simp only [elv, g1]; rfl
  | 4, _, _ => simp only [elv, g1]; rfl
  | 5, _, _ => simp only [elv, g1]; rfl
  | 6, _, _ => simp only [elv, g2]; rfl
  | 7, _, _ => simp only [elv, g3]; rfl
  | 8, _, _ => simp only [elv, g3]; rfl
  | 9, _, _ => simp only [elv, g3]; rfl
  | 10, _, _ => simp only [elv, g3]; rfl
section Snd
variable {p : Program} {l : Launch} {e : Env} {R : Room} {s : State} {m : MethodId} {args : Array Value} {below : List Frame} {meth : Method} {c : Code} {H : Heap} {locs : List Loc} {cells slots : Nat} {Q : State → Prop}
variable {G : CX} {g : GM} {own : String} {cc : ByteArray} {nL d : Nat} {s0 σ : AS} {ini : Bool} {pc : Nat} {ls : Array Slot} {rest : List Value}
theorem am_newa (F : WFx p l R s m args meth c G g own cc nL d s0 ini) (hH : Hold G g.1 σ H) {atype : ArrayType} {t : Nat} (h1 : 1 ≤ t) (h2 : t ≤ 6) (hty : newarray.typeOf atype = tyOf t) (harr : Cond.arrayClass (tyOf t) ∈ lw_all) {n : Int32} (hn : ¬ n < 0) (hb9 : n.toNatClampNeg ≤ 100000) (hroom : zn σ + 1 ≤ CMAX ∧ zu σ + n.toNatClampNeg ≤ SMAX)
    (hkd : kd g.1 (nw σ (t, n.toNatClampNeg) n.toNatClampNeg) (zn σ) = (t, n.toNatClampNeg)) (hdg : decode cc pc = .ok (.newarray atype, 2))
    (kk : ∀ (H' : Heap) (cells' slots' : Nat), Hold G g.1 (nw σ (t, n.toNatClampNeg) n.toNatClampNeg) H' → W p l e R s m args below meth c H' locs cells' slots' Q (F0 m (pc + 2) ls (.ref (G.2.2.1 + zn σ) :: rest))) : W p l e R s m args below meth c H locs cells slots Q (F0 m pc ls (.int n :: rest)) := by
  refine Wt F hH fun hle => ?_
  obtain ⟨hx, hb, -, hown, hts, ⟨hK, hnw, hold, hext⟩, -, ⟨r1, r2, -⟩, -, -⟩ := F
  have hRA := (hK.2 t (G.2.1 t, tyOf t) (by rw [tysL, List.getElem?_map, List.getElem?_range (by omega)]; rfl)).2
  have h8 := cmp_bytes (atype := atype)
  refine W.newa hx hb (by rw [hty]; exact hts _ harr) rfl hdg rfl hn ?_ (by rw [r1]; omega) (by rw [r2]; omega) fun cA kA comp k1 k2 k3 => ?_
  · calc n.toNatClampNeg * componentBytes (newarray.typeOf atype) ≤ 100000 * 8 := Nat.mul_le_mul hb9 h8
      _ ≤ 536870912 := by decide
  have hcA : cA = G.2.1 t := by
    rw [hty] at k1
    have hRA : s.vm.findClass ("[" ++ (tyOf t).toString) = some (G.2.1 t) := by
      match t, h1, h2, hRA with
      | 1, _, _, h => exact h
      | 2, _, _, h => exact h
      | 3, _, _, h => exact h
      | 4, _, _, h => exact h
      | 5, _, _, h => exact h
      | 6, _, _, h => exact h
    exact Option.some.inj (k1.symm.trans hRA)
  subst hcA
  have hH' : Hold G g.1 (nw σ (t, n.toNatClampNeg) n.toNatClampNeg) (H.push { cls := G.2.1 t, slots := Array.replicate n.toNatClampNeg (defaultValue (newarray.typeOf atype)), vm := .none }) := by
    refine hH.push (by simp) hroom ?_
    obtain ⟨t, rfl⟩ : ∃ t', t = t' + 1 := ⟨t - 1, by omega⟩
    have hc : cellOf G g.1 (nw σ (t+1, n.toNatClampNeg) n.toNatClampNeg) (zn σ) = .inl (G.2.1 (t+1), n.toNatClampNeg, aval G g.1 (nw σ (t+1, n.toNatClampNeg) n.toNatClampNeg) (zn σ) (t+1)) := by simp only [cellOf, hkd]
    rw [hc]
    show (H.push _)[G.2.2.1 + zn σ]? = some (vp_cell _ _)
    rw [vp_cell_elv _ _ _ _ _ _ _ (by omega), ← hH.1, Array.getElem?_push_size, arrV_new, hty]
    congr 2
    funext j
    exact (elv_nw (fun h => hH.2.2.2.1 h) h1 (by omega) j).symm
  have hk := kk _ (zn σ - zn s0 + 1) (zu σ - zu s0 + n.toNatClampNeg) hH'
  rw [← hH.1] at hk
  exact hk
end Snd
theorem Grd_spec {b : Bool} {P : Prop} (h : Grd b P) : b = true ∧ P := by
  cases b
  · exact h.elim
  · exact ⟨rfl, h⟩
theorem Grd_intro {b : Bool} {P : Prop} (hb : b = true) (h : P) : Grd b P := by
  subst hb; exact h
theorem isOb_spec {q : Nat × Nat} {cs : List Nat} (h : isOb q cs = true) : ∃ c, q = (0, c) ∧ c ∈ cs := by
  obtain ⟨t, n⟩ := q
  cases t with
  | zero => exact ⟨n, rfl, by simpa [isOb] using h⟩
  | succ t => simp [isOb] at h
theorem roomy_spec {g : GM} {s : AS} {q : Nat × Nat} {n : Nat} {P : Prop} (h : roomy g s q n P) (hp : g.1 = true → NF ≤ zn s) : (zn s + 1 ≤ CMAX ∧ zu s + n ≤ SMAX) ∧ P ∧ kd g.1 (nw s q n) (zn s) = q := by
  unfold roomy at h
  split at h
  · rename_i hg
    exact ⟨h.1, h.2, kd_nw_at hp (fun h => by rw [hg] at h; cases h)⟩
  · rename_i hg
    obtain ⟨h1, h2, h3⟩ := Grd_spec h
    simp only [Bool.and_eq_true] at h1
    refine ⟨h2, h3, kd_nw_at hp (fun _ => ⟨?_, ?_⟩)⟩
    · have := h1.1
      exact Nat.le_of_ble_eq_true this
    · have e1 := Nat.eq_of_beq_eq_true h1.2.1
      have e2 := Nat.eq_of_beq_eq_true h1.2.2
      exact Prod.ext e1 e2
theorem popN_spec : ∀ (n : Nat) (acc st as rest : List AV), popN n acc st = some (as, rest) → ∃ xs : List AV, as = xs.reverse ++ acc ∧ st = xs ++ rest ∧ xs.length = n
  | 0, acc, st, as, rest, h => by
    simp only [popN, Option.some.injEq, Prod.mk.injEq] at h
    exact ⟨[], by simp [h.1], by simp [h.2], rfl⟩
  | n+1, acc, v :: st, as, rest, h => by
    obtain ⟨xs, h1, h2, h3⟩ := popN_spec n (v :: acc) st as rest h
    exact ⟨v :: xs, by simp [h1], by simp [h2], by simp [h3]⟩
  | n+1, acc, [], as, rest, h => by simp [popN] at h
