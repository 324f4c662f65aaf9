/-! methods of a class of which some members are run by the machine itself (java/lang/Math): contracts by plainFor; vx_ofWF is the kit row vx_ofW turned, CT_introF my CT_intro -/
theorem vx_ofWF {l : Launch} {y : MethodName} {ws ws' : List Cond} {rm : Room} {Pc : Array Value → State → Prop} {Qc : Array Value → State → Outcome → State → Prop} {XC : Addr → String → State → State → Prop} {mc ms : Nat} {free : Addr → Prop} {cc : ByteArray} {maxL : Nat} {ret : Option FieldType}
    (hy : plainFor y = true) (hw : ws = Cond.code y cc maxL ret :: ws')
    (body : ∀ p e s m args below meth c s₁, BodyLoose p l y (headSpec ws rm) cc maxL ret e s m args below meth c s₁ → c.maxLocals = maxL → (∀ x ∈ c.exceptionTable.toList, False) → Pc args s →
      W p l e (headSpec ws rm).room s m args below meth c s.heap [] 0 0 (vx_MQ below Qc XC args s mc ms free) (entryFrame m args maxL)) : vx_Met l y ws rm Pc Qc XC mc ms free := by
  refine MetFree.of_bodySF (code := cc) (maxLocals := maxL) (ret := ret) hy ?_ ?_
  · intro args s m h hn
    obtain ⟨meth, c, h1, h2, h3, h4, h5, h6, -, -⟩ := Cond.code_spec hn (atoms_spec (ws := ws) h _ (by rw [hw]; exact List.mem_cons_self))
    exact ⟨meth, c, h1, h2, h3, h4, h5, h6⟩
  · intro p e s m args below meth c s₁ B hml hP _
    have hh0 : s₁.heap = s.heap := by rw [B.state]; rfl
    have ht : ∀ x ∈ c.exceptionTable.toList, False := by
      obtain ⟨meth9, c9, h1, h2, -, -, -, -, h7, -⟩ := Cond.code_spec B.named (atoms_spec (ws := ws) B.pre _ (by rw [hw]; exact List.mem_cons_self))
      cases Option.some.inj (h1.symm.trans B.method)
      cases Option.some.inj (h2.symm.trans (Stand.of_body B).code)
      intro x hx
      rw [Array.isEmpty_iff.mp h7] at hx
      cases hx
    obtain ⟨t, a1, o, b1, b2, b3⟩ := body p e s m args below meth c s₁ B hml ht hP s₁ hh0 (Stand.of_body B)
    exact ⟨t, o, a1, b1, b2, b3⟩
/-- the contract of a method without handlers, out of its run -/
theorem CT_introF {G : CX} {g : GM} {l : Launch} {d mi : Nat} {y : MethodName} {cc : ByteArray} {mL : Nat} {rt : Option FieldType} {as : List AV} {s0 : AS} {N : Option AV → AS → Prop} {X : AS → Prop} (tab : List Ent) (labs : List Nat) (ini : Bool)
    (hq : getM MT mi = some (y, cc, mL, rt, [])) (hT : TabOK y.cls rt cc tab) (hfin : tab.all (finOK mL ini) = true) (hini : (ini && !decide (y.name = "<init>")) = false) (hy : plainFor y = true) (hX : ∀ σ, X σ → kd g.1 σ 10 = (0, 3)) (h0 : pcAt tab 0 = 0)
    (hw : Nat.ble (argW as) mL = true) (body : ∀ P : KN, (∀ i ls st σ, run g (callP G g l (d+1)) tab labs P N X 1000 i ls st σ → P i ls st σ) → P 0 (lsOf mL as) [] s0) : CT G g l (d+1) mi as s0 N X := by
  refine ⟨_, hq, ?_⟩
  refine vx_ofWF (cc := cc) (maxL := mL) (ret := rt) hy rfl ?_
  intro p e s m args below meth c s₁ B hml htab hPc
  obtain ⟨rfl, hH, hTF⟩ := hPc
  have hts := atoms_spec (ws := ws_ y cc mL rt) B.pre
  have hts : ∀ w ∈ lw_all, w.before _ s = true := fun w h => hts w (List.mem_cons_of_mem _ h)
  have hown : s.vm.findClass y.cls = some m.cls := findClass_of_methodNamed B.named
  have F : WFx p l (headSpec (wOf (y, cc, mL, rt, [])) (rmA (d+1) s0)).room s m (as.map (cv G)).toArray meth c G g y.cls cc mL (d+1) s0 ini :=
    ⟨B.exec, B.bytes, hml, hown, hts, hTF, ⟨hH.1, hH.2.1⟩, ⟨rfl, rfl, Nat.le_refl _, Nat.le_refl _⟩, fun h => by
      rw [h] at hini
      have : y.name = "<init>" := by simpa using hini
      rw [← this]; exact (name_of_methodNamed B.named B.method).1, rfl⟩
  have hP := body (Wk p l e (headSpec (wOf (y, cc, mL, rt, [])) (rmA (d+1) s0)).room s m (as.map (cv G)).toArray below meth c G g tab mL (vx_MQ below (QcA G g N) (XcA G g X) (as.map (cv G)).toArray s (CMAX - zn s0) (SMAX - zu s0) (fun a => G.2.2.1 ≤ a)))
    (fun i ls st σ h => run_sound F (by omega) hT.toH hfin (RetH_met F B.returns B.notSynchronized) (ThrH_met F htab B.notSynchronized hX) (fun _ _ q => by cases q) 1000 i ls st σ h)
  have hw := Nat.le_of_ble_eq_true hw
  rw [lg_entry_eq]
  have hle : (lg_sl (as.map (cv G))).length ≤ mL := by rw [lg_sl_len]; exact hw
  have hlv := lv_entry (as.map (cv G)) hle
  have hls : LsOK G ((lg_sl (as.map (cv G)) ++ List.replicate (mL - (lg_sl (as.map (cv G))).length) Slot.unset).toArray) mL (lsOf mL as) := by
    refine ⟨hlv.1, lsOf_len as mL hw, hlv.2.1, fun i v hv => ?_⟩
    have := lsOf_at G as mL 0 i v hw hv
    rw [Nat.zero_add] at this
    exact hlv.2.2 _ this
  have := hP s.heap [] _ 0 0 hH (fun q hq => by simp at hq) hls
  rw [h0] at this
  exact this
theorem MC0F {G : CX} {g : GX} {l : Launch} {d mi : Nat} {y : MethodName} {cc : ByteArray} {mL : Nat} {rt : Option FieldType} {as : List AV} {s0 : AS} {N : Option AV → AS → Prop} (tab : List Ent)
    (hq : getM MT mi = some (y, cc, mL, rt, [])) (hT : TabOK y.cls rt cc tab) (hfin : tab.all (finOK mL false) = true) (hy : plainFor y = true) (h0 : pcAt tab 0 = 0) (hw : Nat.ble (argW as) mL = true)
    (body : ∀ P : KN, run (true, g) (callP G (true, g) l (d+1)) tab [] P N NoX 1000 0 (lsOf mL as) [] s0) : MC G g l (d+1) mi as s0 N :=
  CT_introF tab [] false hq hT hfin rfl hy (fun _ h => h.elim) h0 hw (fun P hP => hP _ _ _ _ (body P))
theorem pf_min2 : plainFor yJ12_min_2 = true := by decide +kernel
theorem pf_max2 : plainFor yJ12_max_2 = true := by decide +kernel
theorem pf_min : plainFor yJ12_min = true := by decide +kernel
theorem pf_max : plainFor yJ12_max = true := by decide +kernel
theorem pf_floorDiv : plainFor yJ12_floorDiv = true := by decide +kernel
theorem pf_floorMod : plainFor yJ12_floorMod = true := by decide +kernel
