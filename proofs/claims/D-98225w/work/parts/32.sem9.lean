/-! contracts: introduction and use -/
theorem RetH_met {p : Program} {l : Launch} {e : Env} {R : Room} {s : State} {m : MethodId} {args : Array Value} {below : List Frame} {meth : Method} {c : Code} {G : CX} {g : GM} {own : String} {cc : ByteArray} {rt : Option FieldType} {nL d : Nat} {s0 : AS} {ini : Bool} {N : Option AV → AS → Prop} {X : AS → Prop}
    (F : WFx p l R s m args meth c G g own cc nL d s0 ini) (hr : meth.sig.returnType = rt) (hlocks : meth.locks = false) :
    RetH p l e R s m args below meth c G g cc rt (vx_MQ below (QcA G g N) (XcA G g X) args s (CMAX - zn s0) (SMAX - zu s0) (fun a => G.2.2.1 ≤ a)) N := by
  intro r σ H locs la cells slots pc hN hH hL hd
  have hx := F.1
  have hb := F.2.1
  have hsz := F.2.2.2.2.2.2.1
  have e1 := hH.1
  have e2 := hH.2.1
  have e5 := hH.2.2.2.2.1
  refine vx_ret ?_
  refine W_grow fun g1 g2 => W_tight (k := CMAX - zn s0) (n := SMAX - zu s0) (by omega) (by omega) ?_
  have hq : ∀ t : State, t.heap = H → s.WarmedH t.vm → QcA G g N args s (.returned (r.map (cv G))) t := fun t ht _ => ⟨r, σ, rfl, hN, by rw [ht]; exact hH⟩
  match r, hN, hd, hq with
  | some (.inl v), _, hd, hq =>
    obtain ⟨hd, t, ht, hn⟩ := hd
    exact W.zret (v := v) hx hb (by rw [hr, ht]) hn hq hL hd hlocks
  | some (.inr (.inl v)), _, hd, hq =>
    exact W.lret (v := v) hx hb (by rw [hr]; exact hd.2) hq hL hd.1 hlocks
  | some (.inr (.inr v)), _, hd, hq =>
    obtain ⟨hd, h9⟩ := hd
    rcases h9 with ⟨n, h9⟩ | ⟨n, h9⟩
    · exact W.aret (v := rv G v) hx hb (by rw [hr, h9]) (Or.inl ⟨_, rfl⟩) (by cases v; exact Or.inl rfl; exact Or.inr ⟨_, rfl⟩) hq hL hd hlocks
    · exact W.aret (v := rv G v) hx hb (by rw [hr, h9]) (Or.inr ⟨_, rfl⟩) (by cases v; exact Or.inl rfl; exact Or.inr ⟨_, rfl⟩) hq hL hd hlocks
  | none, _, hd, hq => exact W.vret hx hb (by rw [hr]; exact hd.2) hq hL hd.1 hlocks
theorem ThrH_met {p : Program} {l : Launch} {e : Env} {R : Room} {s : State} {m : MethodId} {args : Array Value} {below : List Frame} {meth : Method} {c : Code} {G : CX} {g : GM} {own : String} {cc : ByteArray} {nL d : Nat} {s0 : AS} {ini : Bool} {N : Option AV → AS → Prop} {X : AS → Prop}
    (F : WFx p l R s m args meth c G g own cc nL d s0 ini) (htab : ∀ x ∈ c.exceptionTable.toList, False) (hlocks : meth.locks = false) (hX : ∀ σ, X σ → kd g.1 σ 10 = (0, 3)) :
    ThrH p l e R s m args below meth c G g (fun _ => none) (vx_MQ below (QcA G g N) (XcA G g X) args s (CMAX - zn s0) (SMAX - zu s0) (fun a => G.2.2.1 ≤ a)) X := by
  intro σ H locs la cells slots pc st _ hXs hH hL
  have hsz := F.2.2.2.2.2.2.1
  have e1 := hH.1
  have e2 := hH.2.1
  have e5 := hH.2.2.2.2.1
  obtain ⟨r, h1, cell, q1, q2, q3, q4⟩ := am_obj hH (hX σ hXs)
  have hcl := F.2.2.2.2.2.1.1.1 3 _ h1
  intro T hT X9
  have hs : tot T.heap = tot s.heap + _ := same_tot (T := T.setVm s.vm) X9.same
  have h2 : s.heap.size ≤ T.heap.size := X9.same.2.1
  have hTH : T.heap = H := hT
  have hs2 : tot H = tot s.heap + ((T.heap.toList.drop s.heap.size).map (fun c => c.slots.size)).sum := by rw [← hTH]; exact hs
  have h22 : s.heap.size ≤ H.size := by rw [← hTH]; exact h2
  have X10 : Stand p l e R s m args below meth c T locs (CMAX - zn s0) (SMAX - zu s0) := { X9 with same := ⟨X9.same.1, X9.same.2.1, by show T.heap.size ≤ _; rw [hTH]; omega, X9.same.2.2.2.1, by show ((T.heap.toList.drop s.heap.size).map (fun c => c.slots.size)).sum ≤ _; omega, X9.same.2.2.2.2.2⟩ }
  have h3 : r = (RX3, TX3, 8) := by
    have : clT[3]? = some (RX3, TX3, 8) := rfl
    exact Option.some.inj (h1.symm.trans this)
  subst h3
  exact vx_out (E := "BreathTown$Fault") (fun x hx => (htab x hx).elim) hlocks q1 q3 (by rw [q2]; exact hcl.2.1) (fun t ht _ => ⟨rfl, rfl, σ, hXs, by rw [ht]; exact hH⟩) hL (Nat.le_refl _) (Nat.le_refl _) T hT X10
/-- the contract of a method without handlers, out of its run -/
theorem CT_intro {G : CX} {g : GM} {l : Launch} {d mi : Nat} {y : MethodName} {cc : ByteArray} {mL : Nat} {rt : Option FieldType} {as : List AV} {s0 : AS} {N : Option AV → AS → Prop} {X : AS → Prop} (tab : List Ent) (labs : List Nat) (ini : Bool)
    (hq : getM MT mi = some (y, cc, mL, rt, [])) (hT : TabOK y.cls rt cc tab) (hfin : tab.all (finOK mL ini) = true) (hini : (ini && !decide (y.name = "<init>")) = false) (hy : plainName y.cls = true) (hX : ∀ σ, X σ → kd g.1 σ 10 = (0, 3)) (h0 : pcAt tab 0 = 0)
    (hw : Nat.ble (argW as) mL = true) (body : ∀ P : KN, (∀ i ls st σ, run g (callP G g l (d+1)) tab labs P N X 1000 i ls st σ → P i ls st σ) → P 0 (lsOf mL as) [] s0) : CT G g l (d+1) mi as s0 N X := by
  refine ⟨_, hq, ?_⟩
  refine vx_ofW (cc := cc) (maxL := mL) (ret := rt) hy rfl ?_
  intro p e s m args below meth c s₁ B hml htab hPc
  obtain ⟨rfl, hH, hTF⟩ := hPc
  have hts := atoms_spec (ws := ws_ y cc mL rt) B.pre
  have hts : ∀ w ∈ lw_all, w.before _ s = true := fun w h => hts w (List.mem_cons_of_mem _ h)
  have hown : s.vm.findClass y.cls = some m.cls := findClass_of_methodNamed B.named
  have F : WFx p l (headSpec (wOf (y, cc, mL, rt, [])) (rmA (d+1) s0)).room s m (as.map (cv G)).toArray meth c G g y.cls cc mL (d+1) s0 ini :=
    ⟨B.exec, B.bytes, hml, hown, hts, hTF, ⟨hH.1, hH.2.1⟩, ⟨rfl, rfl, Nat.le_refl _, Nat.le_refl _⟩, fun h => by
      rw [h] at hini
      have : y.name = "<init>" := by simpa using hini
      rw [← this]; exact (name_of_methodNamed B.named B.method).1, rfl⟩
  have hP := body (Wk p l e (headSpec (wOf (y, cc, mL, rt, [])) (rmA (d+1) s0)).room s m (as.map (cv G)).toArray below meth c G g tab mL (vx_MQ below (QcA G g N) (XcA G g X) (as.map (cv G)).toArray s (CMAX - zn s0) (SMAX - zu s0) (fun a => G.2.2.1 ≤ a)))
    (fun i ls st σ h => run_sound F (by omega) hT.toH hfin (RetH_met F B.returns B.notSynchronized) (ThrH_met F htab B.notSynchronized hX) (fun _ _ q => by cases q) 1000 i ls st σ h)
  have hw := Nat.le_of_ble_eq_true hw
  rw [lg_entry_eq]
  have hle : (lg_sl (as.map (cv G))).length ≤ mL := by rw [lg_sl_len]; exact hw
  have hlv := lv_entry (as.map (cv G)) hle
  have hls : LsOK G ((lg_sl (as.map (cv G)) ++ List.replicate (mL - (lg_sl (as.map (cv G))).length) Slot.unset).toArray) mL (lsOf mL as) := by
    refine ⟨hlv.1, lsOf_len as mL hw, hlv.2.1, fun i v hv => ?_⟩
    have := lsOf_at G as mL 0 i v hw hv
    rw [Nat.zero_add] at this
    exact hlv.2.2 _ this
  have := hP s.heap [] _ 0 0 hH (fun q hq => by simp at hq) hls
  rw [h0] at this
  exact this
theorem callP_intro {G : CX} {g : GM} {l : Launch} {d mi : Nat} {as : List AV} {s : AS} {N kn : Option AV → AS → Prop} {X kx : AS → Prop} (h : CT G g l d mi as s N X) (hn : ∀ r s', N r s' → kn r s') (hx : ∀ s', X s' → kx s') : callP G g l (d+1) mi as s kn kx := ⟨N, X, h, hn, hx⟩
/-- the contract of a method with one handler, which takes what is thrown in its range; nothing else is thrown -/
theorem CT_introH {G : CX} {g : GM} {l : Launch} {d mi : Nat} {y : MethodName} {cc : ByteArray} {mL : Nat} {rt : Option FieldType} {as : List AV} {s0 : AS} {N : Option AV → AS → Prop} (tab : List Ent) (labs : List Nat) (from_ to_ hp ct9 h9 : Nat)
    (hg : g.1 = true) (hq : getM MT mi = some (y, cc, mL, rt, [(from_, to_, hp, ct9)])) (hT : TabOKH (fun pc => match Nat.ble from_ pc && Nat.blt pc to_ with
      | true => some h9
      | false => none) y.cls rt cc tab) (hfin : tab.all (finOK mL false) = true) (hy : plainName y.cls = true) (h0 : pcAt tab 0 = 0) (hh9 : pcAt tab h9 = hp) (hct : ct9 ≠ 0) (hcl : Cond.classLink y.cls ct9 "BreathTown$Fault" ∈ lw_all)
    (hw : Nat.ble (argW as) mL = true) (body : ∀ P : KN, (∀ i ls st σ, run g (callP G g l (d+1)) tab labs P N (fun _ => False) 1000 i ls st σ → P i ls st σ) → P 0 (lsOf mL as) [] s0) : CT G g l (d+1) mi as s0 N (fun _ => False) := by
  refine ⟨_, hq, ?_⟩
  refine vx_ofWH (cc := cc) (maxL := mL) (ret := rt) (hh := [(from_, to_, hp, ct9)]) hy rfl ?_
  intro p e s m args below meth c s₁ B hml hPc
  obtain ⟨rfl, hH, hTF⟩ := hPc
  have hts := atoms_spec (ws := wsW_ y cc mL rt [(from_, to_, hp, ct9)]) B.pre
  have hcw := hts _ List.mem_cons_self
  have hts : ∀ w ∈ lw_all, w.before _ s = true := fun w h => hts w (List.mem_cons_of_mem _ h)
  have hown : s.vm.findClass y.cls = some m.cls := findClass_of_methodNamed B.named
  have htab := vx_table (x := y) B hcw
  have F : WFx p l (headSpec (wOf (y, cc, mL, rt, [(from_, to_, hp, ct9)])) (rmA (d+1) s0)).room s m (as.map (cv G)).toArray meth c G g y.cls cc mL (d+1) s0 false :=
    ⟨B.exec, B.bytes, hml, hown, hts, hTF, ⟨hH.1, hH.2.1⟩, ⟨rfl, rfl, Nat.le_refl _, Nat.le_refl _⟩, fun h => (by cases h), rfl⟩
  have hP := body (Wk p l e (headSpec (wOf (y, cc, mL, rt, [(from_, to_, hp, ct9)])) (rmA (d+1) s0)).room s m (as.map (cv G)).toArray below meth c G g tab mL (vx_MQ below (QcA G g N) (XcA G g (fun _ => False)) (as.map (cv G)).toArray s (CMAX - zn s0) (SMAX - zu s0) (fun a => G.2.2.1 ≤ a)))
    (fun i ls st σ h => run_sound F (by omega) hT hfin (RetH_met F B.returns B.notSynchronized) (fun _ _ _ _ _ _ _ _ _ q => q.elim) (fun pc h hh σ2 H2 locs2 la c3 c4 st ls2 hl2 hk2 hH2 hL2 => by
      have hk10 : kd g.1 σ2 10 = (0, 3) := by rw [hg]; rfl
      obtain ⟨r, h1, cell, q1, q2, q3, q4⟩ := am_obj hH2 hk10
      have h3 : r = (RX3, TX3, 8) := by
        have : clT[3]? = some (RX3, TX3, 8) := rfl
        exact Option.some.inj (h1.symm.trans this)
      subst h3
      have hcl3 := F.2.2.2.2.2.1.1.1 3 _ h1
      have hrng : (Nat.ble from_ pc && Nat.blt pc to_) = true ∧ h = h9 := by
        have hh : (match Nat.ble from_ pc && Nat.blt pc to_ with
          | true => some h9
          | false => none) = some h := hh
        cases hb : (Nat.ble from_ pc && Nat.blt pc to_) with
        | true => rw [hb] at hh; exact ⟨rfl, (Option.some.inj hh).symm⟩
        | false => rw [hb] at hh; cases hh
      obtain ⟨hr1, rfl⟩ := hrng
      rw [Bool.and_eq_true] at hr1
      have r1 := Nat.le_of_ble_eq_true hr1.1
      have r2 : pc < to_ := Nat.le_of_ble_eq_true hr1.2
      refine vx_catch (own := y.cls) (name := "BreathTown$Fault") (E := "BreathTown$Fault") hown [] _ [] (by rw [htab]; rfl) (fun z hz => by cases hz) ?_ hct (hts _ hcl) (va_Nw.use rfl (hTF.2.1 _ q291 rfl)) q1 q3 (by rw [q2]; exact hcl3.2.1) ?_
      · simp [covers, tableOf, r1, r2]
      · have := hk2 H2 locs2 la c3 c4 hH2 hL2 hl2
        rw [hh9] at this
        exact this) 1000 i ls st σ h)
  have hw := Nat.le_of_ble_eq_true hw
  rw [lg_entry_eq]
  have hle : (lg_sl (as.map (cv G))).length ≤ mL := by rw [lg_sl_len]; exact hw
  have hlv := lv_entry (as.map (cv G)) hle
  have hls : LsOK G ((lg_sl (as.map (cv G)) ++ List.replicate (mL - (lg_sl (as.map (cv G))).length) Slot.unset).toArray) mL (lsOf mL as) := by
    refine ⟨hlv.1, lsOf_len as mL hw, hlv.2.1, fun i v hv => ?_⟩
    have := lsOf_at G as mL 0 i v hw hv
    rw [Nat.zero_add] at this
    exact hlv.2.2 _ this
  have := hP s.heap [] _ 0 0 hH (fun q hq => by simp at hq) hls
  rw [h0] at this
  exact this
