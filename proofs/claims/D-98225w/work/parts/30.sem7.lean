/-! ONE STEP IS SOUND -/
theorem beq_and {a b c d : Nat} (h : (Nat.beq a b && Nat.beq c d) = true) : a = b ∧ c = d := by
  simp only [Bool.and_eq_true] at h
  exact ⟨Nat.eq_of_beq_eq_true h.1, Nat.eq_of_beq_eq_true h.2⟩
theorem br_chk {tab : List Ent} {pc len i : Nat} {off : Int} {t : Nat} (h : (tgtOK tab pc off t && Nat.beq len 3 && Nat.beq (pcAt tab (i+1)) (pc + len)) = true) : (pc : Int) + off = (pcAt tab t : Int) ∧ len = 3 ∧ pcAt tab (i+1) = pc + len := by
  simp only [Bool.and_eq_true] at h
  exact ⟨tgt_spec h.1.1, Nat.eq_of_beq_eq_true h.1.2, Nat.eq_of_beq_eq_true h.2⟩
set_option maxHeartbeats 4000000 in
theorem stp_sound {p : Program} {l : Launch} {e : Env} {R : Room} {s : State} {m : MethodId} {args : Array Value} {below : List Frame} {meth : Method} {c : Code} {Q : State → Prop} {G : CX} {g : GM} {own : String} {rt : Option FieldType} {cc : ByteArray} {nL d : Nat} {s0 σ : AS} {ini : Bool} {tab : List Ent} {N : Option AV → AS → Prop} {X : AS → Prop} {hs : Nat → Option Nat}
    (F : WFx p l R s m args meth c G g own cc nL d s0 ini) (hdp : 1 ≤ d) (hT : TabOKH hs own rt cc tab) (hfin : ∀ e ∈ tab, finOK nL ini e = true) (hret : RetH p l e R s m args below meth c G g cc rt Q N) (hthr : ThrH p l e R s m args below meth c G g hs Q X) (hcat : CatH p l e R s m args below meth c G g tab nL hs Q)
    {i : Nat} {ent : Ent} (hi : getE tab i = some ent) (hmem : ent ∈ tab) {k : KN} (hk : ∀ i ls st σ, k i ls st σ → Wk p l e R s m args below meth c G g tab nL Q i ls st σ) {ls : LSt} {st : List AV} (h : stp g (callP G g l d) i ent ls st σ k N X) : Wk p l e R s m args below meth c G g tab nL Q i ls st σ := by
  intro H locs la c1 c2 hH hL hl
  have hpc : pcAt tab i = ent.2.1 := by simp only [pcAt, hi]
  rw [hpc]
  have hent := AllE_at tab i ent hT.1 hi
  have hch := tabChk_at tab 0 i ent hT.2 hi
  rw [Nat.zero_add] at hch
  have hfe := hfin ent hmem
  obtain ⟨ins, pc0, len, aux, prs, hdl⟩ := ent
  obtain ⟨hdec, hres, hnone⟩ := hent
  have hx := F.1
  have hb := F.2.1
  have hts := F.2.2.2.2.1
  have hown := F.2.2.2.1
  have hlen : ls.length = nL := hl.2.1
  have hnone : hdl = hs pc0 := hnone
  have hxx : ∀ (σ2 : AS) (H2 : Heap) (locs2 : List Loc) (c3 c4 : Nat) (stv : List Value), (match hdl with
      | none => X
      | some h => fun s => k h ls [.inr (.inr (some (.inl 10)))] s) σ2 → Hold G g.1 σ2 H2 → (∀ q ∈ locs2, G.2.2.1 ≤ q.base) → vx_W p l e R s m args below meth c H2 locs2 c3 c4 Q (F0 m pc0 la stv) (G.2.2.1 + 10) := by
    intro σ2 H2 locs2 c3 c4 stv q1 q2 q3
    cases hdl with
    | none => exact hthr σ2 H2 locs2 la c3 c4 pc0 stv hnone.symm q1 q2 q3
    | some h9 => exact hcat pc0 h9 hnone.symm σ2 H2 locs2 la c3 c4 stv ls hl (hk _ _ _ _ q1) q2 q3
  show W p l e R s m args below meth c H locs c1 c2 Q (F0 m pc0 la (st.map (cv G)))
  have go : ∀ {ls' : LSt} {st' : List AV} {σ' : AS} {n : Nat}, pcAt tab (i+1) = pc0 + n → k (i+1) ls' st' σ' → ∀ (H : Heap) (locs : List Loc) (la : Array Slot) (c1 c2 : Nat), Hold G g.1 σ' H → (∀ q ∈ locs, G.2.2.1 ≤ q.base) → LsOK G la nL ls' → W p l e R s m args below meth c H locs c1 c2 Q (F0 m (pc0 + n) la (st'.map (cv G))) := by
    intro ls' st' σ' n hn hk' H locs la c1 c2 h1 h2 h3
    have := hk _ _ _ _ hk' H locs la c1 c2 h1 h2 h3
    rw [hn] at this
    exact this
  have lcs : ∀ {a : Nat} {locs' : List Loc}, (∀ q ∈ locs', q ∈ locs ∨ q.base = G.2.2.1 + a) → ∀ q ∈ locs', G.2.2.1 ≤ q.base := by
    intro a locs' h q hq
    rcases h q hq with h | h
    · exact hL q h
    · rw [h]; exact Nat.le_add_right _ _
  have lca : ∀ {a j : Nat}, ∀ q ∈ locs ++ [(⟨G.2.2.1 + a, j⟩ : Loc)], G.2.2.1 ≤ q.base := by
    intro a j q hq
    rcases List.mem_append.mp hq with hq | hq
    · exact hL q hq
    · simp at hq; subst hq; exact Nat.le_add_right _ _
  cases ins with
  | iload_n n =>
    obtain ⟨hq1, hn⟩ := beq_and (show (Nat.beq len _ && Nat.beq _ _) = true from hch)
    have hq1 : len = 1 := hq1
    subst hq1
    simp only [stp] at h
    split at h
    · rename_i hg
      exact lv_iload_n hx hb hdec rfl (hl.at hg) (go hn h H locs la c1 c2 hH hL hl)
    · exact h.elim
  | iload n =>
    obtain ⟨hq1, hn⟩ := beq_and (show (Nat.beq len _ && Nat.beq _ _) = true from hch)
    have hq1 : len = 2 := hq1
    subst hq1
    simp only [stp] at h
    split at h
    · rename_i hg
      exact lv_iload hx hb hdec (hl.at hg) (go hn h H locs la c1 c2 hH hL hl)
    · exact h.elim
  | lload_n n =>
    obtain ⟨hq1, hn⟩ := beq_and (show (Nat.beq len _ && Nat.beq _ _) = true from hch)
    have hq1 : len = 1 := hq1
    subst hq1
    simp only [stp] at h
    split at h
    · rename_i hg
      exact lv_lload_n hx hb hdec rfl (hl.at hg) (go hn h H locs la c1 c2 hH hL hl)
    · exact h.elim
  | lload n =>
    obtain ⟨hq1, hn⟩ := beq_and (show (Nat.beq len _ && Nat.beq _ _) = true from hch)
    have hq1 : len = 2 := hq1
    subst hq1
    simp only [stp] at h
    split at h
    · rename_i hg
      exact lv_lload hx hb hdec (hl.at hg) (go hn h H locs la c1 c2 hH hL hl)
    · exact h.elim
  | aload_n n =>
    obtain ⟨hq1, hn⟩ := beq_and (show (Nat.beq len _ && Nat.beq _ _) = true from hch)
    have hq1 : len = 1 := hq1
    subst hq1
    simp only [stp] at h
    split at h
    · rename_i r hg
      cases r with
      | none => exact lv_aload_nN hx hb hdec rfl (hl.at hg) (go hn h H locs la c1 c2 hH hL hl)
      | some a => exact lv_aload_n hx hb hdec rfl (hl.at hg) (go hn h H locs la c1 c2 hH hL hl)
    · exact h.elim
  | aload n =>
    obtain ⟨hq1, hn⟩ := beq_and (show (Nat.beq len _ && Nat.beq _ _) = true from hch)
    have hq1 : len = 2 := hq1
    subst hq1
    simp only [stp] at h
    split at h
    · rename_i r hg
      cases r with
      | none => exact lv_aloadN hx hb hdec (hl.at hg) (go hn h H locs la c1 c2 hH hL hl)
      | some a => exact lv_aload hx hb hdec (hl.at hg) (go hn h H locs la c1 c2 hH hL hl)
    · exact h.elim
  | istore_n n =>
    obtain ⟨hq1, hn⟩ := beq_and (show (Nat.beq len _ && Nat.beq _ _) = true from hch)
    have hq1 : len = 1 := hq1
    subst hq1
    simp only [stp] at h
    split at h
    · have hb9 : n.val < nL := Nat.le_of_ble_eq_true hfe
      exact lv_istore_n hx hb hdec rfl hl.has hb9 rfl (fun la2 hl2 => go hn h H locs la2 c1 c2 hH hL (hl.st1 hb9 hl2))
    · exact h.elim
  | istore n =>
    obtain ⟨hq1, hn⟩ := beq_and (show (Nat.beq len _ && Nat.beq _ _) = true from hch)
    have hq1 : len = 2 := hq1
    subst hq1
    simp only [stp] at h
    split at h
    · have hb9 : n < nL := Nat.le_of_ble_eq_true hfe
      exact lv_istore hx hb hdec hl.has hb9 rfl (fun la2 hl2 => go hn h H locs la2 c1 c2 hH hL (hl.st1 hb9 hl2))
    · exact h.elim
  | lstore_n n =>
    obtain ⟨hq1, hn⟩ := beq_and (show (Nat.beq len _ && Nat.beq _ _) = true from hch)
    have hq1 : len = 1 := hq1
    subst hq1
    simp only [stp] at h
    split at h
    · have hb9 : n.val + 1 < nL := Nat.le_of_ble_eq_true hfe
      exact lv_lstore_n hx hb hdec rfl hl.has hb9 rfl (fun la2 hl2 => go hn h H locs la2 c1 c2 hH hL (hl.st2 hb9 hl2))
    · exact h.elim
  | lstore n =>
    obtain ⟨hq1, hn⟩ := beq_and (show (Nat.beq len _ && Nat.beq _ _) = true from hch)
    have hq1 : len = 2 := hq1
    subst hq1
    simp only [stp] at h
    split at h
    · have hb9 : n + 1 < nL := Nat.le_of_ble_eq_true hfe
      exact lv_lstore hx hb hdec hl.has hb9 rfl (fun la2 hl2 => go hn h H locs la2 c1 c2 hH hL (hl.st2 hb9 hl2))
    · exact h.elim
  | astore_n n =>
    obtain ⟨hq1, hn⟩ := beq_and (show (Nat.beq len _ && Nat.beq _ _) = true from hch)
    have hq1 : len = 1 := hq1
    subst hq1
    simp only [stp] at h
    split at h
    · rename_i r _
      have hb9 : n.val < nL := Nat.le_of_ble_eq_true hfe
      cases r with
      | none => exact lv_astore_nN hx hb hdec rfl hl.has hb9 rfl (fun la2 hl2 => go hn h H locs la2 c1 c2 hH hL (hl.st1 (v := .inr (.inr none)) hb9 hl2))
      | some a => exact lv_astore_n hx hb hdec rfl hl.has hb9 rfl (fun la2 hl2 => go hn h H locs la2 c1 c2 hH hL (hl.st1 (v := .inr (.inr (some a))) hb9 hl2))
    · exact h.elim
  | astore n =>
    obtain ⟨hq1, hn⟩ := beq_and (show (Nat.beq len _ && Nat.beq _ _) = true from hch)
    have hq1 : len = 2 := hq1
    subst hq1
    simp only [stp] at h
    split at h
    · rename_i r _
      have hb9 : n < nL := Nat.le_of_ble_eq_true hfe
      cases r with
      | none => exact lv_astoreN hx hb hdec hl.has hb9 rfl (fun la2 hl2 => go hn h H locs la2 c1 c2 hH hL (hl.st1 (v := .inr (.inr none)) hb9 hl2))
      | some a => exact lv_astore hx hb hdec hl.has hb9 rfl (fun la2 hl2 => go hn h H locs la2 c1 c2 hH hL (hl.st1 (v := .inr (.inr (some a))) hb9 hl2))
    · exact h.elim
  | iinc n cst =>
    obtain ⟨hq1, hn⟩ := beq_and (show (Nat.beq len _ && Nat.beq _ _) = true from hch)
    have hq1 : len = 3 := hq1
    subst hq1
    have hcs := cst_i (show cstOK cst aux = true from hfe)
    simp only [stp] at h
    split at h
    · rename_i x m hg
      have hb9 : n < nL := by rw [← hlen]; exact getL_lt _ _ _ hg
      obtain ⟨kx, hkx⟩ := List.getElem?_of_mem (mem_lvl (G := G) hg)
      exact lv_iinc hx hb hdec hl.has hkx (by rw [hcs.1 m rfl]) hb9 rfl (fun la2 hl2 => go hn h H locs la2 c1 c2 hH hL (hl.st1 (v := .inl (x + nI m)) hb9 hl2))
    · rename_i x m hg
      have hb9 : n < nL := by rw [← hlen]; exact getL_lt _ _ _ hg
      obtain ⟨kx, hkx⟩ := List.getElem?_of_mem (mem_lvl (G := G) hg)
      exact lv_iinc hx hb hdec hl.has hkx (by rw [hcs.2 m rfl, Int32.sub_eq_add_neg]) hb9 rfl (fun la2 hl2 => go hn h H locs la2 c1 c2 hH hL (hl.st1 (v := .inl (x - nI m)) hb9 hl2))
    · exact h.elim
  | iconst n =>
    obtain ⟨hq1, hn⟩ := beq_and (show (Nat.beq len _ && Nat.beq _ _) = true from hch)
    have hq1 : len = 1 := hq1
    subst hq1
    have hcs := cst_i (show cstOK n aux = true from hfe)
    simp only [stp] at h
    split at h
    · exact lv_iconst hx hb hdec (hcs.1 _ rfl) (go hn h H locs la c1 c2 hH hL hl)
    · exact lv_iconst hx hb hdec (hcs.2 _ rfl) (go hn h H locs la c1 c2 hH hL hl)
    · exact h.elim
  | bipush n =>
    obtain ⟨hq1, hn⟩ := beq_and (show (Nat.beq len _ && Nat.beq _ _) = true from hch)
    have hq1 : len = 2 := hq1
    subst hq1
    have hr : (decide (-128 ≤ n) && decide (n ≤ 127) && cstOK n aux) = true := hfe
    simp only [Bool.and_eq_true, decide_eq_true_eq] at hr
    have hcs := cst_i hr.2
    simp only [stp] at h
    split at h
    · exact lv_bipush hx hb hdec ((bi8 hr.1.1 hr.1.2).trans (hcs.1 _ rfl)) (go hn h H locs la c1 c2 hH hL hl)
    · exact lv_bipush hx hb hdec ((bi8 hr.1.1 hr.1.2).trans (hcs.2 _ rfl)) (go hn h H locs la c1 c2 hH hL hl)
    · exact h.elim
  | sipush n =>
    obtain ⟨hq1, hn⟩ := beq_and (show (Nat.beq len _ && Nat.beq _ _) = true from hch)
    have hq1 : len = 3 := hq1
    subst hq1
    have hr : (decide (-32768 ≤ n) && decide (n ≤ 32767) && cstOK n aux) = true := hfe
    simp only [Bool.and_eq_true, decide_eq_true_eq] at hr
    have hcs := cst_i hr.2
    simp only [stp] at h
    split at h
    · exact lv_sipush hx hb hdec ((si16 hr.1.1 hr.1.2).trans (hcs.1 _ rfl)) (go hn h H locs la c1 c2 hH hL hl)
    · exact lv_sipush hx hb hdec ((si16 hr.1.1 hr.1.2).trans (hcs.2 _ rfl)) (go hn h H locs la c1 c2 hH hL hl)
    · exact h.elim
  | lconst n =>
    obtain ⟨hq1, hn⟩ := beq_and (show (Nat.beq len _ && Nat.beq _ _) = true from hch)
    have hq1 : len = 1 := hq1
    subst hq1
    simp only [stp] at h
    split at h
    · have hm := Nat.eq_of_beq_eq_true (show Nat.beq _ n.val = true from hfe)
      exact lv_lconst hx hb hdec (by rw [hm]; rfl) (go hn h H locs la c1 c2 hH hL hl)
    · exact h.elim
  | aconst_null =>
    obtain ⟨hq1, hn⟩ := beq_and (show (Nat.beq len _ && Nat.beq _ _) = true from hch)
    have hq1 : len = 1 := hq1
    subst hq1
    exact lv_null hx hb hdec (go hn h H locs la c1 c2 hH hL hl)
  | ldc idx =>
    obtain ⟨hq1, hn⟩ := beq_and (show (Nat.beq len _ && Nat.beq _ _) = true from hch)
    have hq1 : len = 2 := hq1
    subst hq1
    simp only [stp] at h
    split at h
    · exact lv_ldc hx hb hown (hts _ hres) hdec (go hn h H locs la c1 c2 hH hL hl)
    · exact lv_ldc hx hb hown (hts _ hres) hdec (go hn h H locs la c1 c2 hH hL hl)
    · exact am_ldcS F hres hdec (go hn h H locs la c1 c2 hH hL hl)
    · exact am_ldcM F hres hdec (go hn h H locs la c1 c2 hH hL hl)
    · exact h.elim
  | ldc_w idx =>
    obtain ⟨hq1, hn⟩ := beq_and (show (Nat.beq len _ && Nat.beq _ _) = true from hch)
    have hq1 : len = 3 := hq1
    subst hq1
    simp only [stp] at h
    split at h
    · exact lv_ldcw hx hb hown (hts _ hres) hdec (go hn h H locs la c1 c2 hH hL hl)
    · exact lv_ldcw hx hb hown (hts _ hres) hdec (go hn h H locs la c1 c2 hH hL hl)
    · exact am_ldcSW F hres hdec (go hn h H locs la c1 c2 hH hL hl)
    · exact h.elim
  | ldc2_w idx =>
    obtain ⟨hq1, hn⟩ := beq_and (show (Nat.beq len _ && Nat.beq _ _) = true from hch)
    have hq1 : len = 3 := hq1
    subst hq1
    simp only [stp] at h
    split at h
    · exact lv_ldc2 hx hb hown (hts _ hres) hdec (go hn h H locs la c1 c2 hH hL hl)
    · exact lv_ldc2 hx hb hown (hts _ hres) hdec (go hn h H locs la c1 c2 hH hL hl)
    · exact h.elim
  | dup =>
    obtain ⟨hq1, hn⟩ := beq_and (show (Nat.beq len _ && Nat.beq _ _) = true from hch)
    have hq1 : len = 1 := hq1
    subst hq1
    simp only [stp] at h
    split at h
    · exact lv_dup hx hb hdec rfl (go hn h H locs la c1 c2 hH hL hl)
    · exact lv_dup hx hb hdec (cv_cat G (.inr (.inr _))) (go hn h H locs la c1 c2 hH hL hl)
    · exact h.elim
  | pop =>
    obtain ⟨hq1, hn⟩ := beq_and (show (Nat.beq len _ && Nat.beq _ _) = true from hch)
    have hq1 : len = 1 := hq1
    subst hq1
    simp only [stp] at h
    split at h
    · exact lv_pop hx hb hdec rfl (go hn h H locs la c1 c2 hH hL hl)
    · exact lv_pop hx hb hdec (cv_cat G (.inr (.inr _))) (go hn h H locs la c1 c2 hH hL hl)
    · exact h.elim
  | dup_x1 =>
    obtain ⟨hq1, hn⟩ := beq_and (show (Nat.beq len _ && Nat.beq _ _) = true from hch)
    have hq1 : len = 1 := hq1
    subst hq1
    simp only [stp] at h
    split at h
    · exact lv_dup_x1 hx hb hdec rfl (cv_cat G (.inr (.inr _))) (go hn h H locs la c1 c2 hH hL hl)
    · exact lv_dup_x1 hx hb hdec rfl rfl (go hn h H locs la c1 c2 hH hL hl)
    · exact lv_dup_x1 hx hb hdec (cv_cat G (.inr (.inr _))) (cv_cat G (.inr (.inr _))) (go hn h H locs la c1 c2 hH hL hl)
    · exact h.elim
  | dup2 =>
    obtain ⟨hq1, hn⟩ := beq_and (show (Nat.beq len _ && Nat.beq _ _) = true from hch)
    have hq1 : len = 1 := hq1
    subst hq1
    simp only [stp] at h
    split at h
    · exact lv_dup2_11 hx hb hdec rfl (cv_cat G (.inr (.inr _))) (go hn h H locs la c1 c2 hH hL hl)
    · exact lv_dup2_11 hx hb hdec rfl rfl (go hn h H locs la c1 c2 hH hL hl)
    · exact lv_dup2_2 hx hb hdec rfl (go hn h H locs la c1 c2 hH hL hl)
    · exact h.elim
  | iadd =>
    obtain ⟨hq1, hn⟩ := beq_and (show (Nat.beq len _ && Nat.beq _ _) = true from hch)
    have hq1 : len = 1 := hq1
    subst hq1
    simp only [stp] at h
    split at h
    · exact lv_iadd hx hb hdec (go hn h H locs la c1 c2 hH hL hl)
    · exact h.elim
  | isub =>
    obtain ⟨hq1, hn⟩ := beq_and (show (Nat.beq len _ && Nat.beq _ _) = true from hch)
    have hq1 : len = 1 := hq1
    subst hq1
    simp only [stp] at h
    split at h
    · exact lv_isub hx hb hdec (go hn h H locs la c1 c2 hH hL hl)
    · exact h.elim
  | imul =>
    obtain ⟨hq1, hn⟩ := beq_and (show (Nat.beq len _ && Nat.beq _ _) = true from hch)
    have hq1 : len = 1 := hq1
    subst hq1
    simp only [stp] at h
    split at h
    · exact lv_imul hx hb hdec (go hn h H locs la c1 c2 hH hL hl)
    · exact h.elim
  | iand =>
    obtain ⟨hq1, hn⟩ := beq_and (show (Nat.beq len _ && Nat.beq _ _) = true from hch)
    have hq1 : len = 1 := hq1
    subst hq1
    simp only [stp] at h
    split at h
    · exact lv_iand hx hb hdec (go hn h H locs la c1 c2 hH hL hl)
    · exact h.elim
  | ior =>
    obtain ⟨hq1, hn⟩ := beq_and (show (Nat.beq len _ && Nat.beq _ _) = true from hch)
    have hq1 : len = 1 := hq1
    subst hq1
    simp only [stp] at h
    split at h
    · exact lv_ior hx hb hdec (go hn h H locs la c1 c2 hH hL hl)
    · exact h.elim
  | ixor =>
    obtain ⟨hq1, hn⟩ := beq_and (show (Nat.beq len _ && Nat.beq _ _) = true from hch)
    have hq1 : len = 1 := hq1
    subst hq1
    simp only [stp] at h
    split at h
    · exact lv_ixor hx hb hdec (go hn h H locs la c1 c2 hH hL hl)
    · exact h.elim
  | ishl =>
    obtain ⟨hq1, hn⟩ := beq_and (show (Nat.beq len _ && Nat.beq _ _) = true from hch)
    have hq1 : len = 1 := hq1
    subst hq1
    simp only [stp] at h
    split at h
    · exact lv_ishl hx hb hdec (go hn h H locs la c1 c2 hH hL hl)
    · exact h.elim
  | ishr =>
    obtain ⟨hq1, hn⟩ := beq_and (show (Nat.beq len _ && Nat.beq _ _) = true from hch)
    have hq1 : len = 1 := hq1
    subst hq1
    simp only [stp] at h
    split at h
    · exact lv_ishr hx hb hdec (go hn h H locs la c1 c2 hH hL hl)
    · exact h.elim
  | ladd =>
    obtain ⟨hq1, hn⟩ := beq_and (show (Nat.beq len _ && Nat.beq _ _) = true from hch)
    have hq1 : len = 1 := hq1
    subst hq1
    simp only [stp] at h
    split at h
    · exact lv_ladd hx hb hdec (go hn h H locs la c1 c2 hH hL hl)
    · exact h.elim
  | lsub =>
    obtain ⟨hq1, hn⟩ := beq_and (show (Nat.beq len _ && Nat.beq _ _) = true from hch)
    have hq1 : len = 1 := hq1
    subst hq1
    simp only [stp] at h
    split at h
    · exact lv_lsub hx hb hdec (go hn h H locs la c1 c2 hH hL hl)
    · exact h.elim
  | lmul =>
    obtain ⟨hq1, hn⟩ := beq_and (show (Nat.beq len _ && Nat.beq _ _) = true from hch)
    have hq1 : len = 1 := hq1
    subst hq1
    simp only [stp] at h
    split at h
    · exact lv_lmul hx hb hdec (go hn h H locs la c1 c2 hH hL hl)
    · exact h.elim
  | lxor =>
    obtain ⟨hq1, hn⟩ := beq_and (show (Nat.beq len _ && Nat.beq _ _) = true from hch)
    have hq1 : len = 1 := hq1
    subst hq1
    simp only [stp] at h
    split at h
    · exact lv_lxor hx hb hdec (go hn h H locs la c1 c2 hH hL hl)
    · exact h.elim
  | ineg =>
    obtain ⟨hq1, hn⟩ := beq_and (show (Nat.beq len _ && Nat.beq _ _) = true from hch)
    have hq1 : len = 1 := hq1
    subst hq1
    simp only [stp] at h
    split at h
    · exact lv_ineg hx hb hdec (go hn h H locs la c1 c2 hH hL hl)
    · exact h.elim
  | idiv =>
    obtain ⟨hq1, hn⟩ := beq_and (show (Nat.beq len _ && Nat.beq _ _) = true from hch)
    have hq1 : len = 1 := hq1
    subst hq1
    simp only [stp] at h
    split at h
    · obtain ⟨hz, h⟩ := h
      exact lv_idiv hx hb hdec hz (go hn h H locs la c1 c2 hH hL hl)
    · exact h.elim
  | irem =>
    obtain ⟨hq1, hn⟩ := beq_and (show (Nat.beq len _ && Nat.beq _ _) = true from hch)
    have hq1 : len = 1 := hq1
    subst hq1
    simp only [stp] at h
    split at h
    · obtain ⟨hz, h⟩ := h
      exact lv_irem hx hb hdec hz (go hn h H locs la c1 c2 hH hL hl)
    · exact h.elim
  | ldiv =>
    obtain ⟨hq1, hn⟩ := beq_and (show (Nat.beq len _ && Nat.beq _ _) = true from hch)
    have hq1 : len = 1 := hq1
    subst hq1
    simp only [stp] at h
    split at h
    · obtain ⟨hz, h⟩ := h
      exact lv_ldiv hx hb hdec hz (go hn h H locs la c1 c2 hH hL hl)
    · exact h.elim
  | lrem =>
    obtain ⟨hq1, hn⟩ := beq_and (show (Nat.beq len _ && Nat.beq _ _) = true from hch)
    have hq1 : len = 1 := hq1
    subst hq1
    simp only [stp] at h
    split at h
    · obtain ⟨hz, h⟩ := h
      exact lv_lrem hx hb hdec hz (go hn h H locs la c1 c2 hH hL hl)
    · exact h.elim
  | lcmp =>
    obtain ⟨hq1, hn⟩ := beq_and (show (Nat.beq len _ && Nat.beq _ _) = true from hch)
    have hq1 : len = 1 := hq1
    subst hq1
    simp only [stp] at h
    split at h
    · exact W.lcmp hx hb hdec (go hn h H locs la c1 c2 hH hL hl)
    · exact h.elim
  | i2l =>
    obtain ⟨hq1, hn⟩ := beq_and (show (Nat.beq len _ && Nat.beq _ _) = true from hch)
    have hq1 : len = 1 := hq1
    subst hq1
    simp only [stp] at h
    split at h
    · exact lv_i2l hx hb hdec rfl (go hn h H locs la c1 c2 hH hL hl)
    · exact h.elim
  | l2i =>
    obtain ⟨hq1, hn⟩ := beq_and (show (Nat.beq len _ && Nat.beq _ _) = true from hch)
    have hq1 : len = 1 := hq1
    subst hq1
    simp only [stp] at h
    split at h
    · exact lv_l2i hx hb hdec rfl (go hn h H locs la c1 c2 hH hL hl)
    · exact h.elim
  | i2b =>
    obtain ⟨hq1, hn⟩ := beq_and (show (Nat.beq len _ && Nat.beq _ _) = true from hch)
    have hq1 : len = 1 := hq1
    subst hq1
    simp only [stp] at h
    split at h
    · exact lv_i2b hx hb hdec rfl (go hn h H locs la c1 c2 hH hL hl)
    · exact h.elim
  | i2c =>
    obtain ⟨hq1, hn⟩ := beq_and (show (Nat.beq len _ && Nat.beq _ _) = true from hch)
    have hq1 : len = 1 := hq1
    subst hq1
    simp only [stp] at h
    split at h
    · exact lv_i2c hx hb hdec rfl (go hn h H locs la c1 c2 hH hL hl)
    · exact h.elim
  | iushr =>
    obtain ⟨hq1, hn⟩ := beq_and (show (Nat.beq len _ && Nat.beq _ _) = true from hch)
    have hq1 : len = 1 := hq1
    subst hq1
    simp only [stp] at h
    split at h
    · exact lv_iushr hx hb hdec rfl (go hn h H locs la c1 c2 hH hL hl)
    · exact h.elim
  | ifCond cnd off =>
    simp only [stp] at h
    split at h
    · rename_i t
      obtain ⟨ht, hq1, hn⟩ := br_chk (t := t) (i := i) (tab := tab) hch
      subst hq1
      cases cnd with
      | eq => exact lv_if_eq hx hb hdec ht (fun q => hk _ _ _ _ (h.1 q) H locs la c1 c2 hH hL hl) (fun q => go hn (h.2 q) H locs la c1 c2 hH hL hl)
      | ne => exact lv_if_ne hx hb hdec ht (fun q => hk _ _ _ _ (h.1 q) H locs la c1 c2 hH hL hl) (fun q => go hn (h.2 q) H locs la c1 c2 hH hL hl)
      | lt => exact lv_if_lt hx hb hdec ht (fun q => hk _ _ _ _ (h.1 q) H locs la c1 c2 hH hL hl) (fun q => go hn (h.2 q) H locs la c1 c2 hH hL hl)
      | ge => exact lv_if_ge hx hb hdec ht (fun q => hk _ _ _ _ (h.1 q) H locs la c1 c2 hH hL hl) (fun q => go hn (h.2 q) H locs la c1 c2 hH hL hl)
      | gt => exact lv_if_gt hx hb hdec ht (fun q => hk _ _ _ _ (h.1 q) H locs la c1 c2 hH hL hl) (fun q => go hn (h.2 q) H locs la c1 c2 hH hL hl)
      | le => exact lv_if_le hx hb hdec ht (fun q => hk _ _ _ _ (h.1 q) H locs la c1 c2 hH hL hl) (fun q => go hn (h.2 q) H locs la c1 c2 hH hL hl)
    · exact h.elim
  | if_icmp cnd off =>
    simp only [stp] at h
    split at h
    · rename_i t
      obtain ⟨ht, hq1, hn⟩ := br_chk (t := t) (i := i) (tab := tab) hch
      subst hq1
      cases cnd with
      | eq => exact lv_icmp_eq hx hb hdec ht (fun q => hk _ _ _ _ (h.1 q) H locs la c1 c2 hH hL hl) (fun q => go hn (h.2 q) H locs la c1 c2 hH hL hl)
      | ne => exact lv_icmp_ne hx hb hdec ht (fun q => hk _ _ _ _ (h.1 q) H locs la c1 c2 hH hL hl) (fun q => go hn (h.2 q) H locs la c1 c2 hH hL hl)
      | lt => exact lv_icmp_lt hx hb hdec ht (fun q => hk _ _ _ _ (h.1 q) H locs la c1 c2 hH hL hl) (fun q => go hn (h.2 q) H locs la c1 c2 hH hL hl)
      | ge => exact lv_icmp_ge hx hb hdec ht (fun q => hk _ _ _ _ (h.1 q) H locs la c1 c2 hH hL hl) (fun q => go hn (h.2 q) H locs la c1 c2 hH hL hl)
      | gt => exact lv_icmp_gt hx hb hdec ht (fun q => hk _ _ _ _ (h.1 q) H locs la c1 c2 hH hL hl) (fun q => go hn (h.2 q) H locs la c1 c2 hH hL hl)
      | le => exact lv_icmp_le hx hb hdec ht (fun q => hk _ _ _ _ (h.1 q) H locs la c1 c2 hH hL hl) (fun q => go hn (h.2 q) H locs la c1 c2 hH hL hl)
    · exact h.elim
  | ifnull off =>
    simp only [stp] at h
    split at h
    · rename_i t
      obtain ⟨ht, hq1, hn⟩ := br_chk (t := t) (i := i) (tab := tab) hch
      subst hq1
      exact lv_ifnullN hx hb hdec ht (hk _ _ _ _ h H locs la c1 c2 hH hL hl)
    · rename_i t
      obtain ⟨ht, hq1, hn⟩ := br_chk (t := t) (i := i) (tab := tab) hch
      subst hq1
      exact lv_ifnull hx hb hdec (go hn h H locs la c1 c2 hH hL hl)
    · exact h.elim
  | ifnonnull off =>
    simp only [stp] at h
    split at h
    · rename_i t
      obtain ⟨ht, hq1, hn⟩ := br_chk (t := t) (i := i) (tab := tab) hch
      subst hq1
      exact lv_ifnonnullN hx hb hdec (go hn h H locs la c1 c2 hH hL hl)
    · rename_i t
      obtain ⟨ht, hq1, hn⟩ := br_chk (t := t) (i := i) (tab := tab) hch
      subst hq1
      exact lv_ifnonnull hx hb hdec ht (hk _ _ _ _ h H locs la c1 c2 hH hL hl)
    · exact h.elim
  | goto off =>
    simp only [stp] at h
    split at h
    · rename_i t
      have hch : (tgtOK tab pc0 off t && Nat.beq len 3) = true := hch
      simp only [Bool.and_eq_true] at hch
      have hq1 := Nat.eq_of_beq_eq_true hch.2
      subst hq1
      exact lv_goto hx hb hdec (tgt_spec hch.1) (hk _ _ _ _ h H locs la c1 c2 hH hL hl)
    · exact h.elim
  | getfield idx =>
    obtain ⟨hq1, hn⟩ := beq_and (show (Nat.beq len _ && Nat.beq _ _) = true from hch)
    have hq1 : len = 3 := hq1
    subst hq1
    simp only [stp] at h
    split at h
    · rename_i a _ t f cs
      obtain ⟨hg, h⟩ := Grd_spec h
      cases a with
      | inl a =>
        obtain ⟨cn, hkd, hcn⟩ := isOb_spec hg
        have hv : cv G (ldf g σ t f (.inl a)) = fval G g.1 σ a f t := ldf_new
        have hgo := go hn h H locs la c1 c2 hH hL hl
        rw [List.map_cons, hv] at hgo
        exact am_get F hH hkd (FLgs_mem cs cn hres hcn) hdec hgo
      | inr j =>
        obtain ⟨cn, hkd, hcn⟩ := isOb_spec (q := oK g.2.1 j) hg
        have hgo := go hn h H locs la c1 c2 hH hL hl
        rw [List.map_cons] at hgo
        rw [ldf_old (FLgs_mem cs cn hres hcn).le7] at hgo
        exact am_getO F hH hkd (FLgs_mem cs cn hres hcn) hdec hgo
    · exact h.elim
  | putfield idx =>
    obtain ⟨hq1, hn⟩ := beq_and (show (Nat.beq len _ && Nat.beq _ _) = true from hch)
    have hq1 : len = 3 := hq1
    subst hq1
    have pres : ∀ {t fl f : Nat} {cs : List Nat} {cn : Nat}, aux = t :: fl :: f :: cs → cn ∈ cs → ∃ fin : Bool, (fin = true → ini = true) ∧ FL own idx cn f t fin := by
      intro t fl f cs cn ha hcn
      subst ha
      match fl, hres, hfe with
      | 0, hres, _ => exact ⟨false, by simp, FLs_mem cs cn hres hcn⟩
      | 1, hres, hfe => exact ⟨true, fun _ => hfe, FLs_mem cs cn hres hcn⟩
      | _+2, hres, _ => exact hres.elim
    simp only [stp] at h
    split at h
    · rename_i v a st _ f cs
      obtain ⟨hg, h⟩ := Grd_spec h
      skip
      obtain ⟨cn, hkd, hcn⟩ := isOb_spec hg
      obtain ⟨fin, hf1, hf2⟩ := pres rfl hcn
      refine am_put F hH hf1 hkd hf2 (fun ty ht => by cases ty <;> simp [tcd] at ht; exact ⟨rfl, rfl⟩) hdec (σ' := sI σ a f v) rfl rfl (fun _ => rfl) (fun b hb => cellOf_congr rfl (gI_sI_ne hb) rfl rfl) (fun j hj => fvI_eq hf2 (by decide) (by decide) hj) (fun H2 locs2 hH2 hl2 => go hn h H2 locs2 la c1 c2 hH2 (lcs hl2) hl)
    · rename_i v a st t x f cs _
      obtain ⟨hg, h⟩ := Grd_spec h
      obtain ⟨hnar, h⟩ := h
      simp only [Bool.and_eq_true] at hg
      obtain ⟨hg, ht5⟩ := hg
      have ht5 : t < 5 := Nat.le_of_ble_eq_true ht5
      obtain ⟨cn, hkd, hcn⟩ := isOb_spec hg
      obtain ⟨fin, hf1, hf2⟩ := pres rfl hcn
      refine am_put F hH hf1 hkd hf2 (narTy hf2.pos ht5 hnar) hdec (σ' := sI σ a f v) rfl rfl (fun _ => rfl) (fun b hb => cellOf_congr rfl (gI_sI_ne hb) rfl rfl) (fun j hj => fvI_eq hf2 (by omega) (by omega) hj) (fun H2 locs2 hH2 hl2 => go hn h H2 locs2 la c1 c2 hH2 (lcs hl2) hl)
    · rename_i v a st _ f cs
      obtain ⟨hg, h⟩ := Grd_spec h
      skip
      obtain ⟨cn, hkd, hcn⟩ := isOb_spec hg
      obtain ⟨fin, hf1, hf2⟩ := pres rfl hcn
      refine am_put F hH hf1 hkd hf2 (fun ty ht => by cases ty <;> simp [tcd] at ht; exact ⟨rfl, rfl⟩) hdec (σ' := sL σ a f v) rfl rfl (fun _ => rfl) (fun b hb => cellOf_congr rfl rfl (gL_sL_ne hb) rfl) (fun j hj => fvL_eq hf2 hj) (fun H2 locs2 hH2 hl2 => go hn h H2 locs2 la c1 c2 hH2 (lcs hl2) hl)
    · rename_i v a st _ f cs
      obtain ⟨hg, h⟩ := Grd_spec h
      simp only [Bool.and_eq_true] at hg
      obtain ⟨hg, hfx⟩ := hg
      obtain ⟨cn, hkd, hcn⟩ := isOb_spec hg
      obtain ⟨fin, hf1, hf2⟩ := pres rfl hcn
      refine am_put F hH hf1 hkd hf2 refTy hdec (σ' := sR σ a f v) rfl rfl (fun _ => rfl) (fun b hb => cellOf_congr rfl rfl rfl (gR_sR_ne hb)) (fun j hj => fvR_eq hf2 hfx hj) (fun H2 locs2 hH2 hl2 => go hn h H2 locs2 la c1 c2 hH2 (lcs hl2) hl)
    · exact h.elim
  | arraylength =>
    obtain ⟨hq1, hn⟩ := beq_and (show (Nat.beq len _ && Nat.beq _ _) = true from hch)
    have hq1 : len = 1 := hq1
    subst hq1
    simp only [stp] at h
    split at h
    · rename_i a _
      obtain ⟨hg, h⟩ := Grd_spec h
      cases a with
      | inl a =>
        simp only [Bool.and_eq_true, kdA] at hg
        have t1 := Nat.le_of_ble_eq_true hg.1
        have t2 := Nat.le_of_ble_eq_true hg.2
        exact W.alen (n := nI (kd g.1 σ a).2) hx hb (am_arr hH (a := a) (t := (kd g.1 σ a).1) (n := (kd g.1 σ a).2) rfl t1 t2) (am_isArr F t2 _ _) (by rw [arrV_size]; rfl) rfl rfl hdec (go hn h H locs la c1 c2 hH hL hl)
      | inr j =>
        simp only [Bool.and_eq_true, kdA] at hg
        obtain ⟨cell, z1, z2, z3, z4, z5⟩ := am_arrO F hH (j := j) (Nat.le_of_ble_eq_true hg.1) (Nat.le_of_ble_eq_true hg.2)
        exact W.alen (n := nI (oK g.2.1 j).2) hx hb z1 z2 z4.2 rfl rfl hdec (go hn h H locs la c1 c2 hH hL hl)
    · exact h.elim
  | iaload =>
    obtain ⟨hq1, hn⟩ := beq_and (show (Nat.beq len _ && Nat.beq _ _) = true from hch)
    have hq1 : len = 1 := hq1
    subst hq1
    simp only [stp] at h
    split at h
    · rename_i j a _
      obtain ⟨hg, hin, h⟩ := Grd_spec h
      cases a with
      | inr q =>
        have hin : vp_in j (oK g.2.1 q).2 := hin
        have hg : Nat.beq (oK g.2.1 q).1 5 = true := hg
        have t0 : (oK g.2.1 q).1 = 5 := Nat.eq_of_beq_eq_true hg
        obtain ⟨cell, z1, z2, z3, z4, z5⟩ := am_arrO F hH (j := q) (by omega) (by omega)
        rw [t0] at z2 z5
        exact W.iald (v := .int (oI g.2.2.1 q j.toNatClampNeg)) hx hb z1 z2 z3 (fun q => hin (q.imp id (Nat.le_trans z4.1))) (z5 _ (am_ilt hin)) rfl rfl hdec (go hn h H locs la c1 c2 hH hL hl)
      | inl a =>
        have hg : Nat.beq (kd g.1 σ a).1 5 = true := hg
        have hin : vp_in j (kd g.1 σ a).2 := hin
        have t0 : (kd g.1 σ a).1 = 5 := Nat.eq_of_beq_eq_true hg
        have hkd : kd g.1 σ a = (5, (kd g.1 σ a).2) := Prod.ext t0 rfl
        exact W.iald (v := .int (gI σ a j.toNatClampNeg)) hx hb (am_arr hH hkd (by decide) (by decide)) (am_isArr F (t := 5) (by decide) _ _) (fun q => by cases q) (am_inb hin) (by rw [arrV_read _ _ (am_ilt hin)]; rfl) rfl rfl hdec (go hn h H locs la c1 c2 hH hL hl)
    · exact h.elim
  | baload =>
    obtain ⟨hq1, hn⟩ := beq_and (show (Nat.beq len _ && Nat.beq _ _) = true from hch)
    have hq1 : len = 1 := hq1
    subst hq1
    simp only [stp] at h
    split at h
    · rename_i j a _
      obtain ⟨hg, hin, h⟩ := Grd_spec h
      cases a with
      | inr q =>
        have hin : vp_in j (oK g.2.1 q).2 := hin
        have hg : (Nat.beq (oK g.2.1 q).1 1 || Nat.beq (oK g.2.1 q).1 2) = true := hg
        simp only [Bool.or_eq_true] at hg
        rcases hg with hg | hg
        · have t0 : (oK g.2.1 q).1 = 1 := Nat.eq_of_beq_eq_true hg
          obtain ⟨cell, z1, z2, z3, z4, z5⟩ := am_arrO F hH (j := q) (by omega) (by omega)
          rw [t0] at z2 z5
          exact W.zald (v := .int (oI g.2.2.1 q j.toNatClampNeg)) hx hb z1 z2 z3 (fun q => hin (q.imp id (Nat.le_trans z4.1))) (z5 _ (am_ilt hin)) rfl rfl hdec (go hn h H locs la c1 c2 hH hL hl)
        · have t0 : (oK g.2.1 q).1 = 2 := Nat.eq_of_beq_eq_true hg
          obtain ⟨cell, z1, z2, z3, z4, z5⟩ := am_arrO F hH (j := q) (by omega) (by omega)
          rw [t0] at z2 z5
          exact W.bald (v := .int (oI g.2.2.1 q j.toNatClampNeg)) hx hb z1 z2 z3 (fun q => hin (q.imp id (Nat.le_trans z4.1))) (z5 _ (am_ilt hin)) rfl rfl hdec (go hn h H locs la c1 c2 hH hL hl)
      | inl a =>
        have hg : (Nat.beq (kd g.1 σ a).1 1 || Nat.beq (kd g.1 σ a).1 2) = true := hg
        have hin : vp_in j (kd g.1 σ a).2 := hin
        simp only [Bool.or_eq_true] at hg
        rcases hg with hg | hg
        · have t0 : (kd g.1 σ a).1 = 1 := Nat.eq_of_beq_eq_true hg
          have hkd : kd g.1 σ a = (1, (kd g.1 σ a).2) := Prod.ext t0 rfl
          exact W.zald (v := .int (gI σ a j.toNatClampNeg)) hx hb (am_arr hH hkd (by decide) (by decide)) (am_isArr F (t := 1) (by decide) _ _) (fun q => by cases q) (am_inb hin) (by rw [arrV_read _ _ (am_ilt hin)]; rfl) rfl rfl hdec (go hn h H locs la c1 c2 hH hL hl)
        · have t0 : (kd g.1 σ a).1 = 2 := Nat.eq_of_beq_eq_true hg
          have hkd : kd g.1 σ a = (2, (kd g.1 σ a).2) := Prod.ext t0 rfl
          exact W.bald (v := .int (gI σ a j.toNatClampNeg)) hx hb (am_arr hH hkd (by decide) (by decide)) (am_isArr F (t := 2) (by decide) _ _) (fun q => by cases q) (am_inb hin) (by rw [arrV_read _ _ (am_ilt hin)]; rfl) rfl rfl hdec (go hn h H locs la c1 c2 hH hL hl)
    · exact h.elim
  | caload =>
    obtain ⟨hq1, hn⟩ := beq_and (show (Nat.beq len _ && Nat.beq _ _) = true from hch)
    have hq1 : len = 1 := hq1
    subst hq1
    simp only [stp] at h
    split at h
    · rename_i j a _
      obtain ⟨hg, hin, h⟩ := Grd_spec h
      have t0 : (kd g.1 σ a).1 = 3 := Nat.eq_of_beq_eq_true hg
      have hkd : kd g.1 σ a = (3, (kd g.1 σ a).2) := Prod.ext t0 rfl
      exact W.cald (v := .int (gI σ a j.toNatClampNeg)) hx hb (am_arr hH hkd (by decide) (by decide)) (am_isArr F (t := 3) (by decide) _ _) (fun q => by cases q) (am_inb hin) (by rw [arrV_read _ _ (am_ilt hin)]; rfl) rfl rfl hdec (go hn h H locs la c1 c2 hH hL hl)
    · exact h.elim
  | laload =>
    obtain ⟨hq1, hn⟩ := beq_and (show (Nat.beq len _ && Nat.beq _ _) = true from hch)
    have hq1 : len = 1 := hq1
    subst hq1
    simp only [stp] at h
    split at h
    · rename_i j a _
      obtain ⟨hg, hin, h⟩ := Grd_spec h
      have t0 : (kd g.1 σ a).1 = 6 := Nat.eq_of_beq_eq_true hg
      have hkd : kd g.1 σ a = (6, (kd g.1 σ a).2) := Prod.ext t0 rfl
      exact W.lald (v := .long (gL σ a j.toNatClampNeg)) hx hb (am_arr hH hkd (by decide) (by decide)) (am_isArr F (t := 6) (by decide) _ _) (fun q => by cases q) (am_inb hin) (by rw [arrV_read _ _ (am_ilt hin)]; rfl) rfl rfl hdec (go hn h H locs la c1 c2 hH hL hl)
    · exact h.elim
  | aaload =>
    obtain ⟨hq1, hn⟩ := beq_and (show (Nat.beq len _ && Nat.beq _ _) = true from hch)
    have hq1 : len = 1 := hq1
    subst hq1
    simp only [stp] at h
    split at h
    · rename_i j a _
      obtain ⟨hg, hin, h⟩ := Grd_spec h
      simp only [Bool.and_eq_true] at hg
      have t1 := Nat.le_of_ble_eq_true hg.1
      have t2 := Nat.le_of_ble_eq_true hg.2
      cases a with
      | inr q =>
        have t1 : 7 ≤ (oK g.2.1 q).1 := t1
        have t2 : (oK g.2.1 q).1 ≤ 10 := t2
        have hin : vp_in j (oK g.2.1 q).2 := hin
        obtain ⟨cell, z1, z2, z3, z4, z5⟩ := am_arrO F hH (j := q) (by omega) t2
        exact W.aald (v := rv G (oR q j.toNatClampNeg)) hx hb z1 z2 (ty7 t1) z3 (fun q => hin (q.imp id (Nat.le_trans z4.1))) (by rw [z5 _ (am_ilt hin), oval7 t1]) rfl rfl hdec (go hn h H locs la c1 c2 hH hL hl)
      | inl a =>
        have t1 : 7 ≤ (kd g.1 σ a).1 := t1
        have t2 : (kd g.1 σ a).1 ≤ 10 := t2
        have hin : vp_in j (kd g.1 σ a).2 := hin
        exact W.aald (v := rv G (gR g.1 σ a j.toNatClampNeg)) hx hb (am_arr hH (a := a) (t := (kd g.1 σ a).1) (n := (kd g.1 σ a).2) rfl (by omega) t2) (am_isArr F t2 _ _) (ty7 t1) (fun q => by cases q) (am_inb hin) (by rw [arrV_read _ _ (am_ilt hin), elv7 t1]) rfl rfl hdec (go hn h H locs la c1 c2 hH hL hl)
    · exact h.elim
  | iastore =>
    obtain ⟨hq1, hn⟩ := beq_and (show (Nat.beq len _ && Nat.beq _ _) = true from hch)
    have hq1 : len = 1 := hq1
    subst hq1
    simp only [stp] at h
    split at h
    · rename_i v j a _
      obtain ⟨hg, hin, h⟩ := Grd_spec h
      have t0 : (kd g.1 σ a).1 = 5 := Nat.eq_of_beq_eq_true hg
      have hkd : kd g.1 σ a = (5, (kd g.1 σ a).2) := Prod.ext t0 rfl
      exact W.iast hx hb (am_arr hH hkd (by decide) (by decide)) (am_isArr F (t := 5) (by decide) _ _) (fun q => by cases q) (am_inb hin) rfl rfl hdec fun H2 e1 e2 e3 => go hn h H2 _ la c1 c2 (am_stH hH (σ' := sI σ a j.toNatClampNeg v) (v := .int v) hkd (by decide) (by decide) rfl rfl (fun _ => rfl) (fun b hb => cellOf_congr rfl (gI_sI_ne hb) rfl rfl) (fun q => by simp only [elv, gI_sI, true_and]; split <;> rfl) e1 e2 e3) lca hl
    · exact h.elim
  | bastore =>
    obtain ⟨hq1, hn⟩ := beq_and (show (Nat.beq len _ && Nat.beq _ _) = true from hch)
    have hq1 : len = 1 := hq1
    subst hq1
    simp only [stp] at h
    split at h
    · rename_i v j a _
      obtain ⟨hg, hin, h⟩ := Grd_spec h
      simp only [Bool.or_eq_true] at hg
      rcases hg with hg | hg
      · have t0 : (kd g.1 σ a).1 = 1 := Nat.eq_of_beq_eq_true hg
        have hkd : kd g.1 σ a = (1, (kd g.1 σ a).2) := Prod.ext t0 rfl
        rw [t0] at h
        exact W.zast hx hb (am_arr hH hkd (by decide) (by decide)) (am_isArr F (t := 1) (by decide) _ _) (fun q => by cases q) (am_inb hin) rfl rfl hdec fun H2 e1 e2 e3 => go hn h H2 _ la c1 c2 (am_stH hH (σ' := sI σ a j.toNatClampNeg (vp_nar (tyOf 1) v)) (v := .int (vp_nar .boolean v)) hkd (by decide) (by decide) rfl rfl (fun _ => rfl) (fun b hb => cellOf_congr rfl (gI_sI_ne hb) rfl rfl) (fun q => by simp only [elv, gI_sI, true_and]; split <;> rfl) e1 e2 e3) lca hl
      · have t0 : (kd g.1 σ a).1 = 2 := Nat.eq_of_beq_eq_true hg
        have hkd : kd g.1 σ a = (2, (kd g.1 σ a).2) := Prod.ext t0 rfl
        rw [t0] at h
        exact W.bast hx hb (am_arr hH hkd (by decide) (by decide)) (am_isArr F (t := 2) (by decide) _ _) (fun q => by cases q) (am_inb hin) rfl rfl hdec fun H2 e1 e2 e3 => go hn h H2 _ la c1 c2 (am_stH hH (σ' := sI σ a j.toNatClampNeg (vp_nar (tyOf 2) v)) (v := .int (vp_nar .byte v)) hkd (by decide) (by decide) rfl rfl (fun _ => rfl) (fun b hb => cellOf_congr rfl (gI_sI_ne hb) rfl rfl) (fun q => by simp only [elv, gI_sI, true_and]; split <;> rfl) e1 e2 e3) lca hl
    · exact h.elim
  | castore =>
    obtain ⟨hq1, hn⟩ := beq_and (show (Nat.beq len _ && Nat.beq _ _) = true from hch)
    have hq1 : len = 1 := hq1
    subst hq1
    simp only [stp] at h
    split at h
    · rename_i v j a _
      obtain ⟨hg, hin, h⟩ := Grd_spec h
      have t0 : (kd g.1 σ a).1 = 3 := Nat.eq_of_beq_eq_true hg
      have hkd : kd g.1 σ a = (3, (kd g.1 σ a).2) := Prod.ext t0 rfl
      exact W.cast hx hb (am_arr hH hkd (by decide) (by decide)) (am_isArr F (t := 3) (by decide) _ _) (fun q => by cases q) (am_inb hin) rfl rfl hdec fun H2 e1 e2 e3 => go hn h H2 _ la c1 c2 (am_stH hH (σ' := sI σ a j.toNatClampNeg (vp_nar .char v)) (v := .int (vp_nar .char v)) hkd (by decide) (by decide) rfl rfl (fun _ => rfl) (fun b hb => cellOf_congr rfl (gI_sI_ne hb) rfl rfl) (fun q => by simp only [elv, gI_sI, true_and]; split <;> rfl) e1 e2 e3) lca hl
    · exact h.elim
  | lastore =>
    obtain ⟨hq1, hn⟩ := beq_and (show (Nat.beq len _ && Nat.beq _ _) = true from hch)
    have hq1 : len = 1 := hq1
    subst hq1
    simp only [stp] at h
    split at h
    · rename_i v j a _
      obtain ⟨hg, hin, h⟩ := Grd_spec h
      have t0 : (kd g.1 σ a).1 = 6 := Nat.eq_of_beq_eq_true hg
      have hkd : kd g.1 σ a = (6, (kd g.1 σ a).2) := Prod.ext t0 rfl
      exact W.last hx hb (am_arr hH hkd (by decide) (by decide)) (am_isArr F (t := 6) (by decide) _ _) (fun q => by cases q) (am_inb hin) rfl rfl hdec fun H2 e1 e2 e3 => go hn h H2 _ la c1 c2 (am_stH hH (σ' := sL σ a j.toNatClampNeg v) (v := .long v) hkd (by decide) (by decide) rfl rfl (fun _ => rfl) (fun b hb => cellOf_congr rfl rfl (gL_sL_ne hb) rfl) (fun q => by simp only [elv, gL_sL, true_and]; split <;> rfl) e1 e2 e3) lca hl
    · exact h.elim
  | new idx =>
    obtain ⟨hq1, hn⟩ := beq_and (show (Nat.beq len _ && Nat.beq _ _) = true from hch)
    have hq1 : len = 3 := hq1
    subst hq1
    simp only [stp] at h
    split at h
    · rename_i cn n
      obtain ⟨hr, h, hkd⟩ := roomy_spec h hH.2.2.2.1
      obtain ⟨C, T, ty, hcf, w1, w2, w3⟩ := hres
      exact am_new F hH hcf w1 w2 w3 hr hkd hdec (fun H2 c3 c4 hH2 => go hn h H2 locs la c3 c4 hH2 hL hl)
    · exact h.elim
  | newarray at_ =>
    obtain ⟨hq1, hn⟩ := beq_and (show (Nat.beq len _ && Nat.beq _ _) = true from hch)
    have hq1 : len = 2 := hq1
    subst hq1
    simp only [stp] at h
    split at h
    · rename_i n _ t
      obtain ⟨hg, ⟨hn0, hn1⟩, h⟩ := Grd_spec h
      obtain ⟨hr, h, hkd⟩ := roomy_spec h hH.2.2.2.1
      obtain ⟨w1, w2⟩ := hres
      simp only [Bool.and_eq_true] at hg
      exact am_newa F hH (Nat.le_of_ble_eq_true hg.1) (Nat.le_of_ble_eq_true hg.2) w1 w2 hn0 hn1 hr hkd hdec (fun H2 c3 c4 hH2 => go hn h H2 locs la c3 c4 hH2 hL hl)
    · exact h.elim
  | ireturn =>
    have hq1 : len = 1 := Nat.eq_of_beq_eq_true hch
    subst hq1
    simp only [stp] at h
    split at h
    · exact hret _ _ _ _ la _ _ _ h hH hL ⟨hdec, 5, hres, rfl⟩
    · exact hret _ _ _ _ la _ _ _ h.2 hH hL ⟨hdec, _, hres, h.1.1⟩
    · exact h.elim
  | lreturn =>
    have hq1 : len = 1 := Nat.eq_of_beq_eq_true hch
    subst hq1
    simp only [stp] at h
    split at h
    · exact hret _ _ _ _ la _ _ _ h hH hL ⟨hdec, hres⟩
    · exact h.elim
  | areturn =>
    have hq1 : len = 1 := Nat.eq_of_beq_eq_true hch
    subst hq1
    simp only [stp] at h
    split at h
    · exact hret _ _ _ _ la _ _ _ h hH hL ⟨hdec, hres⟩
    · exact h.elim
  | return_ =>
    have hq1 : len = 1 := Nat.eq_of_beq_eq_true hch
    subst hq1
    simp only [stp] at h
    split at h
    · exact hret _ _ _ _ la _ _ _ h hH hL ⟨hdec, hres⟩
    · exact h.elim
  | tableswitch d9 lo hi9 offs =>
    simp only [stp] at h
    split at h
    · rename_i x st2 t0 ts
      have hch : (tgtOK tab pc0 d9 t0 && allT tab pc0 offs.toList ts && decide (hi9 = lo + (ts.length : Int) - 1) && decide (-1000000 ≤ lo) && decide (hi9 ≤ 1000000)) = true := hch
      simp only [Bool.and_eq_true, decide_eq_true_eq] at hch
      obtain ⟨⟨⟨⟨k1, k2⟩, k3⟩, k4⟩, k5⟩ := hch
      obtain ⟨a1, a2⟩ := allT_at _ _ k2
      have hne : ∀ j : Nat, j < ts.length → ¬ x.toInt = lo + j → ¬ x = Int32.ofInt (lo + j) := by
        intro j hj hq e
        apply hq
        rw [e, ofInt_toInt (by omega) (by omega)]
      have hout : (x.toInt < lo ∨ hi9 < x.toInt) → W p l e R s m args below meth c H locs c1 c2 Q (F0 m pc0 la ((Sum.inl x :: st2).map (cv G))) := by
        intro hq
        exact lv_tableOut hx hb hdec hq (tgt_spec k1) (hk _ _ _ _ (swT_out ts lo t0 h (fun j hj => hne j hj (by omega))) H locs la c1 c2 hH hL hl)
      by_cases q1 : x.toInt < lo
      · exact hout (Or.inl q1)
      · by_cases q2 : hi9 < x.toInt
        · exact hout (Or.inr q2)
        · have hj : (x.toInt - lo).toNat < ts.length := by omega
          obtain ⟨o, a3, a4⟩ := a2 _ _ (List.getElem?_eq_getElem hj)
          refine lv_tableIn hx hb hdec q1 q2 (by rw [← Array.getElem?_toList]; exact a3) a4 (hk _ _ _ _ (swT_in ts lo t0 h _ _ (List.getElem?_eq_getElem hj) ?_ (fun j' hj' => hne j' (by omega) (by omega))) H locs la c1 c2 hH hL hl)
          rw [show lo + ((x.toInt - lo).toNat : Int) = x.toInt by omega, Int32.ofInt_toInt]
    · exact h.elim
  | lookupswitch d9 ps =>
    simp only [stp] at h
    split at h
    · rename_i x st2 t0 ts
      have hch : (tgtOK tab pc0 d9 t0 && allT tab pc0 (ps.toList.map (fun q => q.2)) ts && (ps.toList.zip (ps.toList.drop 1)).all (fun (a, next) => a.1 < next.1) && ps.toList.all (fun q => decide (-2147483648 ≤ q.1) && decide (q.1 < 2147483648))) = true := hch
      rw [Bool.and_eq_true, Bool.and_eq_true, Bool.and_eq_true] at hch
      obtain ⟨⟨⟨k1, k2⟩, k3⟩, k4⟩ := hch
      obtain ⟨off, t9, a1, a2, a3⟩ := swL (tgt_spec k1) _ _ k2 k4 h
      exact lv_lookup hx hb hdec k3 a1 a2 (hk _ _ _ _ a3 H locs la c1 c2 hH hL hl)
    · exact h.elim
  | getstatic idx =>
    obtain ⟨hq1, hn⟩ := beq_and (show (Nat.beq len _ && Nat.beq _ _) = true from hch)
    have hq1 : len = 3 := hq1
    subst hq1
    simp only [stp] at h
    split at h
    · exact am_gets F hH hres hdec (go hn h H locs la c1 c2 hH hL hl)
    · exact am_gets F hH hres hdec (go hn h H locs la c1 c2 hH hL hl)
    · exact am_gets F hH hres hdec (go hn h H locs la c1 c2 hH hL hl)
    · exact h.elim
  | anewarray idx =>
    obtain ⟨hq1, hn⟩ := beq_and (show (Nat.beq len _ && Nat.beq _ _) = true from hch)
    have hq1 : len = 3 := hq1
    subst hq1
    simp only [stp] at h
    split at h
    · rename_i n _ t
      obtain ⟨hg, ⟨hn0, hn1⟩, h⟩ := Grd_spec h
      obtain ⟨hr, h, hkd⟩ := roomy_spec h hH.2.2.2.1
      simp only [Bool.and_eq_true] at hg
      have t7 := Nat.le_of_ble_eq_true hg.1
      have t8 := Nat.le_of_ble_eq_true hg.2
      have hext := F.2.2.2.2.2.1.2.2.2
      have ht : t = 7 ∨ t = 8 := by omega
      rcases ht with rfl | rfl
      · exact am_anew F hH (Or.inl rfl) rfl hres hext.2.2.1.1 hn0 hn1 hr hkd hdec (fun H2 c3 c4 hH2 => go hn h H2 locs la c3 c4 hH2 hL hl)
      · exact am_anew F hH (Or.inr rfl) rfl hres hext.2.2.1.2.1 hn0 hn1 hr hkd hdec (fun H2 c3 c4 hH2 => go hn h H2 locs la c3 c4 hH2 hL hl)
    · exact h.elim
  | multianewarray idx dm =>
    obtain ⟨hq1, hn⟩ := beq_and (show (Nat.beq len _ && Nat.beq _ _) = true from hch)
    have hq1 : len = 4 := hq1
    subst hq1
    simp only [stp] at h
    split at h
    · split at h
      · exact h.elim
      · rename_i x0 x1 _ n9 m9 _ hg1
        obtain ⟨hg, ⟨rfl, rfl⟩, hr, h⟩ := Grd_spec h
        simp only [Bool.and_eq_true] at hg
        obtain ⟨⟨⟨g1, g2, g3⟩, g4⟩, g5, g6⟩ := hg
        obtain ⟨hres, rfl⟩ := hres
        exact am_multi F hH hg1 hres (Nat.le_of_ble_eq_true g1) (Prod.ext (Nat.eq_of_beq_eq_true g2) (Nat.eq_of_beq_eq_true g3)) g4 (Nat.le_of_ble_eq_true g5) (Nat.le_of_ble_eq_true g6) hr hdec (fun H2 c3 c4 hH2 => go hn h H2 locs la c3 c4 hH2 hL hl)
    · exact h.elim
  | checkcast idx =>
    obtain ⟨hq1, hn⟩ := beq_and (show (Nat.beq len _ && Nat.beq _ _) = true from hch)
    have hq1 : len = 3 := hq1
    subst hq1
    simp only [stp] at h
    split at h
    · rename_i a _
      obtain ⟨hg, h⟩ := Grd_spec h
      rcases hres with hres | ⟨nm, hlk, hcs⟩
      · have hres : aux = [] := hres
        subst hres
        simp at hg
      exact am_cast F hH hlk hcs hg hdec (go hn h H locs la c1 c2 hH hL hl)
    · exact h.elim
  | instanceof idx =>
    obtain ⟨hq1, hn⟩ := beq_and (show (Nat.beq len _ && Nat.beq _ _) = true from hch)
    have hq1 : len = 3 := hq1
    subst hq1
    simp only [stp] at h
    split at h
    · rename_i a _
      obtain ⟨hg, h⟩ := Grd_spec h
      rcases hres with hres | ⟨nm, hlk, hcs⟩
      · have hres : aux = [] := hres
        subst hres
        simp at hg
      exact am_inst F hH hlk hcs hg hdec (go hn h H locs la c1 c2 hH hL hl)
    · exact h.elim
  | if_acmp cnd off =>
    simp only [stp] at h
    split at h
    · rename_i b a _ t
      obtain ⟨ht, hq1, hn⟩ := br_chk (t := t) (i := i) (tab := tab) hch
      subst hq1
      cases cnd with
      | eq => exact lv_acmp_eq (rx := some (G.2.2.1 + a)) (ry := some (G.2.2.1 + b)) hx hb hdec ht (fun q => hk _ _ _ _ (h.1 (by have := Option.some.inj q; omega)) H locs la c1 c2 hH hL hl) (fun q => go hn (h.2 (fun e => q (by rw [e]))) H locs la c1 c2 hH hL hl)
      | ne => exact lv_acmp_ne (rx := some (G.2.2.1 + a)) (ry := some (G.2.2.1 + b)) hx hb hdec ht (fun q => hk _ _ _ _ (h.1 (fun e => q (by rw [e]))) H locs la c1 c2 hH hL hl) (fun q => go hn (h.2 (by have := Option.some.inj q; omega)) H locs la c1 c2 hH hL hl)
    · rename_i b j _ t
      obtain ⟨ht, hq1, hn⟩ := br_chk (t := t) (i := i) (tab := tab) hch
      subst hq1
      obtain ⟨hg, h⟩ := Grd_spec h
      have hlt := am_old F hg
      cases cnd with
      | eq => exact lv_acmp_eq (rx := some (G.2.2.2.2.2 j)) (ry := some (G.2.2.1 + b)) hx hb hdec ht (fun q => by have := Option.some.inj q; omega) (fun q => go hn h H locs la c1 c2 hH hL hl)
      | ne => exact lv_acmp_ne (rx := some (G.2.2.2.2.2 j)) (ry := some (G.2.2.1 + b)) hx hb hdec ht (fun q => hk _ _ _ _ h H locs la c1 c2 hH hL hl) (fun q => by have := Option.some.inj q; omega)
    · rename_i j a _ t
      obtain ⟨ht, hq1, hn⟩ := br_chk (t := t) (i := i) (tab := tab) hch
      subst hq1
      obtain ⟨hg, h⟩ := Grd_spec h
      have hlt := am_old F hg
      cases cnd with
      | eq => exact lv_acmp_eq (rx := some (G.2.2.1 + a)) (ry := some (G.2.2.2.2.2 j)) hx hb hdec ht (fun q => by have := Option.some.inj q; omega) (fun q => go hn h H locs la c1 c2 hH hL hl)
      | ne => exact lv_acmp_ne (rx := some (G.2.2.1 + a)) (ry := some (G.2.2.2.2.2 j)) hx hb hdec ht (fun q => hk _ _ _ _ h H locs la c1 c2 hH hL hl) (fun q => by have := Option.some.inj q; omega)
    · rename_i j q9 _ t
      obtain ⟨ht, hq1, hn⟩ := br_chk (t := t) (i := i) (tab := tab) hch
      subst hq1
      obtain ⟨hg, h9⟩ := Grd_spec h
      have hjq := Nat.eq_of_beq_eq_true hg
      subst hjq
      cases cnd with
      | eq => exact lv_acmp_eq (rx := some (G.2.2.2.2.2 j)) (ry := some (G.2.2.2.2.2 j)) hx hb hdec ht (fun q => hk _ _ _ _ h9 H locs la c1 c2 hH hL hl) (fun q => absurd rfl q)
      | ne => exact lv_acmp_ne (rx := some (G.2.2.2.2.2 j)) (ry := some (G.2.2.2.2.2 j)) hx hb hdec ht (fun q => absurd rfl q) (fun q => go hn h9 H locs la c1 c2 hH hL hl)
    · exact h.elim
  | athrow =>
    have hq1 : len = 1 := Nat.eq_of_beq_eq_true hch
    subst hq1
    simp only [stp] at h
    split at h
    · exact vx_athrow hx hb hdec (hthr σ H locs la c1 c2 pc0 _ hnone.symm h hH hL)
    · exact h.elim
  | aastore =>
    obtain ⟨hq1, hn⟩ := beq_and (show (Nat.beq len _ && Nat.beq _ _) = true from hch)
    have hq1 : len = 1 := hq1
    subst hq1
    simp only [stp] at h
    split at h
    · rename_i v j a _
      obtain ⟨hg, hin, h⟩ := Grd_spec h
      rw [Bool.and_eq_true, Bool.or_eq_true, Bool.and_eq_true, Bool.and_eq_true] at hg
      obtain ⟨hg, hfx⟩ := hg
      rcases hg with ⟨g1, g2⟩ | ⟨g1, g2⟩
      · have t0 : (kd g.1 σ a).1 = 7 := Nat.eq_of_beq_eq_true g1
        obtain ⟨cn, hkv, hcn⟩ := isOb_spec g2
        obtain ⟨⟨D9, T9, N9⟩, hr9, -⟩ := am_obj hH hkv
        exact am_aast F hH (t := 7) (C := "java/lang/Object") (Prod.ext t0 rfl) (Or.inl rfl) rfl hkv hr9 (obj_cast cn (by simp at hcn; omega) _ _ _ hr9) hin hfx hdec (fun H2 hH2 => go hn h H2 _ la c1 c2 hH2 lca hl)
      · have t0 : (kd g.1 σ a).1 = 8 := Nat.eq_of_beq_eq_true g1
        obtain ⟨cn, hkv, hcn⟩ := isOb_spec g2
        have hcn : cn = 5 := by simpa using hcn
        subst hcn
        exact am_aast F hH (t := 8) (C := "BreathTown$State") (cn := 5) (D := RX5) (T := TX5) (N9 := 6) (Prod.ext t0 rfl) (Or.inr rfl) rfl hkv rfl (Or.inl rfl) hin hfx hdec (fun H2 hH2 => go hn h H2 _ la c1 c2 hH2 lca hl)
    · exact h.elim
  | invokestatic idx =>
    obtain ⟨hq1, hn⟩ := beq_and (show (Nat.beq len _ && Nat.beq _ _) = true from hch)
    have hq1 : len = 3 := hq1
    subst hq1
    simp only [stp] at h
    split at h
    · split at h
      · rename_i n dp a sp b st2
        obtain ⟨hsc, ⟨⟨n1, n2, n3⟩, n4, n5⟩, h⟩ := Grd_spec h
        have hsc := Nat.le_of_ble_eq_true hsc
        obtain ⟨w1, w2, w3, w4⟩ := hres
        rcases h with ⟨ka, kb, hf, h⟩ | ⟨ka, kb, ⟨ha9, hb9⟩, hel, h⟩
        · exact am_copy F hdp hH hL hl.1 (t := 2) (σ' := cpI σ b a sp.toNatClampNeg dp.toNatClampNeg n.toNatClampNeg) (Or.inl rfl) (Prod.ext ka rfl) (Prod.ext kb rfl) hsc w1 w2 w3 w4 n1 n2 n3 n4 n5 (fun _ => hf) (fun q => by cases q) rfl rfl (fun _ => rfl) (fun b9 hb9 => cellOf_congr rfl (gI_cpI_ne hb9) rfl rfl) (fun i => by show Value.int (gI (cpI σ b a _ _ _) a i) = va_cpy (fun j => Value.int (gI σ b j)) (fun j => Value.int (gI σ a j)) _ _ _ i; rw [gI_cpI]; unfold va_cpy; split <;> rfl) hdec (fun H2 locs2 hH2 hl2 => go hn h H2 locs2 la c1 c2 hH2 hl2 hl)
        · exact am_copy F hdp hH hL hl.1 (t := 7) (σ' := cpR σ b a sp.toNatClampNeg dp.toNatClampNeg n.toNatClampNeg) (Or.inr rfl) (Prod.ext ka rfl) (Prod.ext kb rfl) hsc w1 w2 w3 w4 n1 n2 n3 n4 n5 (fun q => by cases q) (fun _ => hel) rfl rfl (fun _ => rfl) (fun b9 hb9 => cellOf_congr rfl rfl rfl (gR_cpR_ne hb9)) (fun i => by show rv G (gR g.1 (cpR σ b a _ _ _) a i) = va_cpy (fun j => rv G (gR g.1 σ b j)) (fun j => rv G (gR g.1 σ a j)) _ _ _ i; rw [gR_cpR ha9 hb9]; unfold va_cpy; split <;> rfl) hdec (fun H2 locs2 hH2 hl2 => go hn h H2 locs2 la c1 c2 hH2 hl2 hl)
      · exact h.elim
    · rename_i n mi
      split at h
      · rename_i as st2 hpop
        obtain ⟨hsc, h⟩ := Grd_spec h
        have hres : SOK own idx n mi := by simpa [ResOK] using hres
        exact am_static F hH hL hl hres hpop (Nat.le_of_ble_eq_true hsc) hdec h (fun r σ2 H2 locs2 c3 c4 q1 q2 q3 => by have := go hn q1 H2 locs2 la c3 c4 q2 q3 hl; rw [List.map_append] at this; exact this) (fun σ2 H2 locs2 c3 c4 q1 q2 q3 => hxx σ2 H2 locs2 c3 c4 _ q1 q2 q3)
      · exact h.elim
    · exact h.elim
  | invokespecial idx =>
    obtain ⟨hq1, hn⟩ := beq_and (show (Nat.beq len _ && Nat.beq _ _) = true from hch)
    have hq1 : len = 3 := hq1
    subst hq1
    simp only [stp] at h
    split at h
    · split at h
      · obtain ⟨hsc, h⟩ := Grd_spec h
        exact W.objInit hx hb hown (hts _ hres.1) (hts _ hres.2.1) (hts _ hres.2.2) rfl (by rw [F.2.2.1]; exact hl.1) rfl hdec (am_fr1 F hdp) (am_lc1 F hdp (Nat.le_of_ble_eq_true hsc)) (go hn h H locs la c1 c2 hH hL hl)
      · exact h.elim
    · rename_i n mi
      split at h
      · rename_i as a st2 hpop
        obtain ⟨hsc, h⟩ := Grd_spec h
        rw [Bool.and_eq_true] at hsc
        have hres : IOK own idx n mi prs := by simpa [ResOK] using hres
        exact am_init F hH hL hl hres hsc.1 hpop (Nat.le_of_ble_eq_true hsc.2) hdec h (fun r σ2 H2 locs2 c3 c4 q1 q2 q3 => by have := go hn q1 H2 locs2 la c3 c4 q2 q3 hl; rw [List.map_append] at this; exact this) (fun σ2 H2 locs2 c3 c4 q1 q2 q3 => hxx σ2 H2 locs2 c3 c4 _ q1 q2 q3)
      · exact h.elim
    · exact h.elim
  | invokevirtual idx =>
    obtain ⟨hq1, hn⟩ := beq_and (show (Nat.beq len _ && Nat.beq _ _) = true from hch)
    have hq1 : len = 3 := hq1
    subst hq1
    simp only [stp] at h
    split at h
    · split at h
      · rename_i a st2
        obtain ⟨hg, h⟩ := Grd_spec h
        rw [Bool.and_eq_true] at hg
        obtain ⟨w1, w2, w3, w4, w5⟩ := hres
        exact am_getC F hdp hH hl.1 (Nat.eq_of_beq_eq_true hg.1) (Nat.le_of_ble_eq_true hg.2) w1 w2 w3 w4 w5 hdec (go hn h H locs la c1 c2 hH hL hl)
      · exact h.elim
    · rename_i n
      have hres : VOKs own idx n prs := by simpa [ResOK] using hres
      split at h
      · rename_i as a st2 hpop
        obtain ⟨hk0, h⟩ := Grd_spec h
        split at h
        · rename_i mi hlk
          obtain ⟨hsc, h⟩ := Grd_spec h
          cases a with
          | inr a => exact am_virtO F hH hL hl hres (Nat.eq_of_beq_eq_true hk0) hlk hpop (Nat.le_of_ble_eq_true hsc) hdec h (fun r σ2 H2 locs2 c3 c4 q1 q2 q3 => by have := go hn q1 H2 locs2 la c3 c4 q2 q3 hl; rw [List.map_append] at this; exact this) (fun σ2 H2 locs2 c3 c4 q1 q2 q3 => hxx σ2 H2 locs2 c3 c4 _ q1 q2 q3)
          | inl a => exact am_virt F hH hL hl hres (Nat.eq_of_beq_eq_true hk0) hlk hpop (Nat.le_of_ble_eq_true hsc) hdec h (fun r σ2 H2 locs2 c3 c4 q1 q2 q3 => by have := go hn q1 H2 locs2 la c3 c4 q2 q3 hl; rw [List.map_append] at this; exact this) (fun σ2 H2 locs2 c3 c4 q1 q2 q3 => hxx σ2 H2 locs2 c3 c4 _ q1 q2 q3)
        · exact h.elim
      · exact h.elim
    · exact h.elim
  | invokeinterface idx ct9 =>
    obtain ⟨hq1, hn⟩ := beq_and (show (Nat.beq len _ && Nat.beq _ _) = true from hch)
    have hq1 : len = 5 := hq1
    subst hq1
    simp only [stp] at h
    split at h
    · rename_i n
      split at h
      · rename_i as a st2 hpop
        obtain ⟨hk0, h⟩ := Grd_spec h
        split at h
        · rename_i mi hlk
          obtain ⟨hsc, h⟩ := Grd_spec h
          exact am_face F hH hL hl hres (Nat.eq_of_beq_eq_true hk0) hlk hpop (Nat.le_of_ble_eq_true hsc) hdec h (fun r σ2 H2 locs2 c3 c4 q1 q2 q3 => by have := go hn q1 H2 locs2 la c3 c4 q2 q3 hl; rw [List.map_append] at this; exact this) (fun σ2 H2 locs2 c3 c4 q1 q2 q3 => hxx σ2 H2 locs2 c3 c4 _ q1 q2 q3)
        · exact h.elim
      · exact h.elim
    · exact h.elim
  | _ => exact h.elim
