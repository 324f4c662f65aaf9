/-! THE TOWN FROM WHAT WAS TOLD -/
def stD : StR := (0, 0, 0, 0, 0, [])
def townOf (rs : RS) : Twn := (rs.2.2.1.1.length, rs.2.2.1.2.1.length, rs.2.2.1.2.2.length, fun s => ((rs.2.2.2.1[s]?.getD stD).1, (rs.2.2.2.1[s]?.getD stD).2.1, (rs.2.2.2.1[s]?.getD stD).2.2.1, (rs.2.2.2.1[s]?.getD stD).2.2.2.1, (rs.2.2.2.1[s]?.getD stD).2.2.2.2.2), fun w => rs.2.2.2.2[w]?.getD (0, 0, 0), fun k i => (nmK rs.2.2.1 k)[i]?.getD 0)
def nowOf (rs : RS) : Nws := (rs.2.1, fun s => (rs.2.2.2.1[s]?.getD stD).2.2.2.2.1, fun w => ((rs.2.2.2.2[w]?.getD (0, 0, 0)).2.1, (rs.2.2.2.2[w]?.getD (0, 0, 0)).2.2, 0))
theorem hgt_wfR : ∀ (cs : List Nat) (n : Nat), hgt false cs n = some 1 → wfR cs n
  | [], n, h => Option.some.inj h
  | c :: cs, n, h => by
    rw [hgt_c] at h
    show (1 ≤ c ∧ c ≤ 10999) ∧ (if 1000 ≤ c ∨ (7 ≤ c ∧ c ≤ 10) then wfR cs (n+1) else c ≤ 6 ∧ 2 ≤ n ∧ wfR cs (n-1))
    by_cases e : psh false c = true
    · rw [if_pos e] at h
      have hc : (1000 ≤ c ∧ c ≤ 10999) ∨ (7 ≤ c ∧ c ≤ 10) := by
        unfold psh at e
        simpa using e
      refine ⟨by omega, ?_⟩
      rw [if_pos (by omega)]
      exact hgt_wfR cs _ h
    · rw [if_neg e, if_neg (fun q => by cases q.1)] at h
      by_cases e2 : 1 ≤ c ∧ c ≤ 6 ∧ 2 ≤ n
      · rw [if_pos e2] at h
        refine ⟨by omega, ?_⟩
        rw [if_neg (by omega)]
        exact ⟨e2.2.1, e2.2.2, hgt_wfR cs _ h⟩
      · rw [if_neg e2] at h
        cases h
theorem tw_st {rs : RS} {s : Nat} (h : RSOK rs) (hs : s < Tns (townOf rs)) : ∃ z, rs.2.2.2.1[s]? = some z ∧ StOK rs.2.2.1.1.length z ∧ (townOf rs).2.2.2.1 s = (z.1, z.2.1, z.2.2.1, z.2.2.2.1, z.2.2.2.2.2) ∧ (nowOf rs).2.1 s = z.2.2.2.2.1 := by
  have hs : s < rs.2.2.1.2.1.length := hs
  obtain ⟨r1, r2, r3, r6, r7, r8, r9, r10⟩ := h
  obtain ⟨z, hz⟩ : ∃ z, rs.2.2.2.1[s]? = some z := ⟨_, List.getElem?_eq_getElem (by omega)⟩
  refine ⟨z, hz, r8 z (List.mem_of_getElem? hz), ?_, ?_⟩
  · show ((rs.2.2.2.1[s]?.getD stD).1, (rs.2.2.2.1[s]?.getD stD).2.1, (rs.2.2.2.1[s]?.getD stD).2.2.1, (rs.2.2.2.1[s]?.getD stD).2.2.2.1, (rs.2.2.2.1[s]?.getD stD).2.2.2.2.2) = _
    rw [hz]; rfl
  · show (rs.2.2.2.1[s]?.getD stD).2.2.2.2.1 = _
    rw [hz]; rfl
theorem tw_wk {rs : RS} {w : Nat} (h : RSOK rs) (hw : w < Tnw (townOf rs)) : ∃ z, rs.2.2.2.2[w]? = some z ∧ WkOK rs.2.2.1.1.length z ∧ (townOf rs).2.2.2.2.1 w = z ∧ (nowOf rs).2.2 w = (z.2.1, z.2.2, 0) := by
  have hw : w < rs.2.2.1.2.2.length := hw
  obtain ⟨r1, r2, r3, r6, r7, r8, r9, r10⟩ := h
  obtain ⟨z, hz⟩ : ∃ z, rs.2.2.2.2[w]? = some z := ⟨_, List.getElem?_eq_getElem (by omega)⟩
  refine ⟨z, hz, r9 z (List.mem_of_getElem? hz), ?_, ?_⟩
  · show rs.2.2.2.2[w]?.getD (0, 0, 0) = _
    rw [hz]; rfl
  · show ((rs.2.2.2.2[w]?.getD (0, 0, 0)).2.1, (rs.2.2.2.2[w]?.getD (0, 0, 0)).2.2, 0) = _
    rw [hz]; rfl
theorem townOf_ok {rs : RS} (h : RSOK rs) : TOK (townOf rs) := by
  refine ⟨h.2.2.1, fun s hs => ?_, fun w hw => ?_⟩
  · obtain ⟨z, h1, h2, h3, h4⟩ := tw_st h hs
    unfold Tfr Tto Ttk Trd Tcd
    rw [h3]
    exact ⟨h2.1, h2.2.1, h2.2.2.1, h2.2.2.2.1, h2.2.2.2.2.1, hgt_wfR _ _ (h2.2.2.2.2.2.2 0)⟩
  · obtain ⟨z, h1, h2, h3, h4⟩ := tw_wk h hw
    unfold Tbr Twa Twb
    rw [h3]
    exact h2
theorem nowOf_ok {rs : RS} (h : RSOK rs) : NOK (townOf rs) (nowOf rs) := by
  refine ⟨by have := h.2.1; show rs.2.1 ≤ 9999; omega, fun s hs => ?_, fun w hw => ?_⟩
  · obtain ⟨z, h1, h2, h3, h4⟩ := tw_st h hs
    unfold Nsh Trd
    rw [h3, h4]
    exact h2.2.2.2.2.2.1
  · obtain ⟨z, h1, h2, h3, h4⟩ := tw_wk h hw
    unfold Nat_ Nto Nfr Twa Twb
    rw [h3, h4]
    exact ⟨Or.inl ⟨rfl, rfl⟩, Nat.zero_le _⟩
theorem townOf_nm {rs : RS} (h : RSOK rs) : NmOK (townOf rs) := by
  intro kd k
  show (nmK rs.2.2.1 kd)[k]?.getD 0 < 387420489
  cases e : (nmK rs.2.2.1 kd)[k]? with
  | none => show 0 < 387420489; omega
  | some v => exact (h.2.2.2.2.2.2.2 kd v (List.mem_of_getElem? e)).1
theorem tw_nm {rs : RS} {σ : AS} (h : MNm rs.2.2.1 σ) {kd k : Nat} (hkd : kd < 3) (hk : k < (nmK rs.2.2.1 kd).length) : gL σ 221 (12 * kd + k) = lN (Tnm (townOf rs) kd k) := by
  obtain ⟨v, hv⟩ : ∃ v, (nmK rs.2.2.1 kd)[k]? = some v := ⟨_, List.getElem?_eq_getElem hk⟩
  rw [(h.2.2 kd hkd k v hv).1]
  show lN v = lN ((nmK rs.2.2.1 kd)[k]?.getD 0)
  rw [hv]; rfl
/-- the town stands -/
theorem MRS.stands {rs : RS} {C : List Nat} {σ t : AS} (h : MRS rs C σ) (hS : Stnd σ t) (hC : ∀ j, j < C.length → gI t 224 (1600 + j) = gI σ 224 j) (hb : gI t 230 0 = nI rs.2.1) (h1 : ∀ s, s < Tns (townOf rs) → gI t 230 (1 + s) = nI (Nsh (nowOf rs) s)) (h2 : ∀ w, w < Tnw (townOf rs) → gI t 230 (13 + 3 * w) = nI (Nat_ (nowOf rs) w) ∧ gI t 230 (13 + 3 * w + 1) = nI (Nto (nowOf rs) w) ∧ gI t 230 (13 + 3 * w + 2) = nI 0) : TN (townOf rs) (nowOf rs) t := by
  obtain ⟨r0, m1, m2, m3, m4, m5, ⟨m6, m6a, m6b⟩, m7⟩ := h
  obtain ⟨-, s1, s2, s3, s4, s5, s6⟩ := hS
  have hT := townOf_ok r0
  obtain ⟨⟨l1, l2, l3⟩, -, -⟩ := hT
  refine ⟨townOf_ok r0, nowOf_ok r0, ⟨?_, ?_, ?_, fun s hs => ?_, fun w hw => ?_, fun s hs => ?_, fun k hk => ?_, fun k hk => ?_, fun k hk => ?_⟩, hb, h1, fun w hw => ?_⟩
  · exact (s1 0 (by omega)).trans m1.2.1.1
  · exact (s1 1 (by omega)).trans m1.2.1.2.1
  · exact (s1 2 (by omega)).trans m1.2.1.2.2
  · obtain ⟨z, g1, g2, g3, g4⟩ := tw_st r0 hs
    obtain ⟨q1, q2, q3, q4, q5⟩ := m4 s z g1
    unfold Tfr Tto Ttk Trd
    rw [g3]
    exact ⟨(s3 (5 * s) (by omega)).trans q1, (s3 (5 * s + 1) (by omega)).trans q2, (s3 (5 * s + 2) (by omega)).trans q3, (s3 (5 * s + 3) (by omega)).trans q4⟩
  · obtain ⟨z, g1, g2, g3, g4⟩ := tw_wk r0 hw
    obtain ⟨q1, q2, q3⟩ := m5 w z g1
    unfold Tbr Twa Twb
    rw [g3]
    exact ⟨(s4 (3 * w) (by omega)).trans q1, (s4 (3 * w + 1) (by omega)).trans q2, (s4 (3 * w + 2) (by omega)).trans q3⟩
  · obtain ⟨z, g1, g2, g3, g4⟩ := tw_st r0 hs
    obtain ⟨f, q1, q2, q3, q4⟩ := m7 s z g1
    unfold Tcd
    rw [g3]
    refine ⟨f, (s5 s (by omega)).trans q1, (s6 s (by omega)).trans q2, by show f + z.2.2.2.2.2.length ≤ 1600; omega, fun j c hj => ?_⟩
    have hj : z.2.2.2.2.2[j]? = some c := hj
    have q5 := q4 j c hj
    rw [show 1600 + f + j = 1600 + (f + j) by omega, hC _ (get_lt q5)]
    exact m6b _ _ q5
  · have hk9 : k < rs.2.2.1.1.length := hk
    have l1 : rs.2.2.1.1.length ≤ 9 := l1
    rw [s2 k (by omega)]
    have := tw_nm m1 (kd := 0) (k := k) (by omega) hk9
    rw [show 12 * 0 + k = k by omega] at this
    exact this
  · have hk9 : k < rs.2.2.1.2.1.length := hk
    have l2 : rs.2.2.1.2.1.length ≤ 12 := l2
    rw [show 48 + k = 36 + (12 * 1 + k) by omega, s2 _ (by omega)]
    exact tw_nm m1 (kd := 1) (k := k) (by omega) hk9
  · have hk9 : k < rs.2.2.1.2.2.length := hk
    have l3 : rs.2.2.1.2.2.length ≤ 6 := l3
    rw [show 60 + k = 36 + (12 * 2 + k) by omega, s2 _ (by omega)]
    exact tw_nm m1 (kd := 2) (k := k) (by omega) hk9
  · obtain ⟨z, g1, g2, g3, g4⟩ := tw_wk r0 hw
    have h2 := h2 w hw
    refine ⟨h2.1, h2.2.1, ?_⟩
    unfold Nfr
    rw [g4]
    exact h2.2.2
/-- what a refused town alters -/
def tS (σ t : AS) : Prop := mS [1, 2, 3, 4, 5, 6, 7, 8, 27, 32, 33, 35, 37, 38, 41] [202, 220, 221, 222, 223, 224, 225, 226, 227] σ t ∧ (∀ k, 3 ≤ k → gI t 220 k = gI σ 220 k) ∧ (∀ k, 36 ≤ k → gL t 221 k = gL σ 221 k) ∧ (∀ k, 60 ≤ k → gI t 222 k = gI σ 222 k) ∧ (∀ k, 18 ≤ k → gI t 223 k = gI σ 223 k) ∧ (∀ k, 1600 ≤ k → gI t 224 k = gI σ 224 k) ∧ (∀ k, 12 ≤ k → gI t 226 k = gI σ 226 k) ∧ (∀ k, 12 ≤ k → gI t 227 k = gI σ 227 k)
theorem tS.tr {σ s t : AS} (h1 : tS σ s) (h2 : tS s t) : tS σ t := by
  obtain ⟨a0, a1, a2, a3, a4, a5, a6, a7⟩ := h1
  obtain ⟨b0, b1, b2, b3, b4, b5, b6, b7⟩ := h2
  exact ⟨a0.tr b0, fun k hk => (b1 k hk).trans (a1 k hk), fun k hk => (b2 k hk).trans (a2 k hk), fun k hk => (b3 k hk).trans (a3 k hk), fun k hk => (b4 k hk).trans (a4 k hk), fun k hk => (b5 k hk).trans (a5 k hk), fun k hk => (b6 k hk).trans (a6 k hk), fun k hk => (b7 k hk).trans (a7 k hk)⟩
theorem tS.ofr {σ t : AS} (h : rS σ t) : tS σ t := ⟨h.1.mono rfl rfl, h.2⟩
theorem tS.of {fs : List Nat} {σ t : AS} (h : mS fs [202] σ t) (hf : fs.all (fun k => [1, 2, 3, 4, 5, 6, 7, 8, 27, 32, 33, 35, 37, 38, 41].contains k) = true) : tS σ t :=
  ⟨h.mono hf rfl, fun k _ => h.ia 220 rfl rfl k, fun k _ => h.la 221 rfl rfl k, fun k _ => h.ia 222 rfl rfl k, fun k _ => h.ia 223 rfl rfl k, fun k _ => h.ia 224 rfl rfl k, fun k _ => h.ia 226 rfl rfl k, fun k _ => h.ia 227 rfl rfl k⟩
/-- the town that stood still stands -/
theorem TN.ts {T : Twn} {n : Nws} {σ t : AS} (h : TN T n σ) (hS : tS σ t) : TN T n t := by
  obtain ⟨hT, hN, ⟨m1, m2, m3, m4, m5, m6, m7, m8, m9⟩, hn⟩ := h
  obtain ⟨b0, b1, b2, b3, b4, b5, b6, b7⟩ := hS
  refine ⟨hT, hN, ⟨by rw [b1 3 (by omega)]; exact m1, by rw [b1 4 (by omega)]; exact m2, by rw [b1 5 (by omega)]; exact m3, fun s hs => ?_, fun w hw => ?_, fun s hs => ?_, fun k hk => ?_, fun k hk => ?_, fun k hk => ?_⟩, hn.keep b0 rfl⟩
  · rw [b3 _ (by omega), b3 _ (by omega), b3 _ (by omega), b3 _ (by omega)]; exact m4 s hs
  · rw [b4 _ (by omega), b4 _ (by omega), b4 _ (by omega)]; exact m5 w hw
  · obtain ⟨f, q1, q2, q3, q4⟩ := m6 s hs
    exact ⟨f, by rw [b6 _ (by omega)]; exact q1, by rw [b7 _ (by omega)]; exact q2, q3, fun j c hj => by rw [b5 _ (by omega)]; exact q4 j c hj⟩
  · rw [b2 _ (by omega)]; exact m7 k hk
  · rw [b2 _ (by omega)]; exact m8 k hk
  · rw [b2 _ (by omega)]; exact m9 k hk
def TwnPost (res : Except Flt RS) (σ : AS) (r : Option AV) (t : AS) : Prop := match res with
  | .ok rs => r = some (iv (nI rs.1)) ∧ mS [1, 2, 3, 4, 5, 6, 7, 8, 27, 32, 33, 35, 37, 38, 41, 63, 66] [202, 220, 221, 222, 223, 224, 225, 226, 227, 230] σ t ∧ (∀ k, gI t 202 k = gI σ 202 k) ∧ gI t 200 1 = nI 0 ∧ gI t 200 7 = nI 0 ∧ gI t 200 8 = - nI 1 ∧ RSOK rs ∧ TN (townOf rs) (nowOf rs) t ∧ gI t 200 63 = nI 0 ∧ gI t 200 66 = nI 0
  | .error f => r = some (iv (- nI 1)) ∧ tS σ t ∧ gI t 200 1 = nI 0 ∧ gI t 200 7 = nI f.1 ∧ gI t 200 8 = nI f.2 ∧ RefInc 1 σ t
section TO_
variable (G : CX) (g : GX) (l : Launch) (d : Nat) (σ : AS)
set_option maxRecDepth 20000 in
set_option maxHeartbeats 2000000 in
theorem c_town (tp : List Nat) (hT : MTp tp σ) (hW : Wds σ) : MC G g l (d+9) mX6_town [tM] σ (fun r t => TwnPost (townP tp) σ r t) := by
  have hlen : tp.length ≤ 1600 := hT.1.1
  generalize hres : townP tp = res
  refine MC1 tX6_town [30, 40, 50] rfl okX6_town rfl rfl rfl rfl (fun P hP => ?_)
  have finE : ∀ (τ : AS) (f : Flt), tS σ τ → (∀ k, gI τ 202 k = gI σ 202 k) → gI τ 200 1 = nI 0 → PF tp f τ → res = .error f → P 50 [some tM, some (iv (nI 3))] [] τ := by
    intro τ f hS hR h1 hF hr
    have hne : ¬ gI (sI (sI τ 200 7 (gI τ 200 5)) 200 8 (gI (sI τ 200 7 (gI τ 200 5)) 200 6)) 200 5 = nI 0 := pf_bad hF
    refine hP _ _ _ _ (And.intro (fun q => absurd q hne) (fun _ => And.intro (vin 1 6 rfl rfl) (And.intro (vin 1 6 rfl rfl) ?_)))
    show TwnPost res σ (some (iv (- nI 1))) (sI (sI (sI τ 200 7 (gI τ 200 5)) 200 8 (gI (sI τ 200 7 (gI τ 200 5)) 200 6)) 202 1 (gI (sI (sI τ 200 7 (gI τ 200 5)) 200 8 (gI (sI τ 200 7 (gI τ 200 5)) 200 6)) 202 1 + nI 1))
    rw [hr]
    have S1 : mS [7, 8] [202] τ (sI (sI (sI τ 200 7 (gI τ 200 5)) 200 8 (gI (sI τ 200 7 (gI τ 200 5)) 200 6)) 202 1 (gI (sI (sI τ 200 7 (gI τ 200 5)) 200 8 (gI (sI τ 200 7 (gI τ 200 5)) 200 6)) 202 1 + nI 1)) := ((mS.rf.f rfl).f rfl).a rfl
    refine ⟨rfl, hS.tr (tS.of S1 rfl), by rw [S1.i 200 1 rfl rfl]; exact h1, ?_, ?_, ?_, fun j hj => ?_⟩
    · show gI τ 200 5 = _
      exact hF.2.1
    · show gI τ 200 6 = _
      exact hF.2.2.2.1
    · rw [gI_sI, if_pos ⟨rfl, rfl⟩]
      show gI τ 202 1 + nI 1 = _
      rw [hR]
    · rw [gI_sI, if_neg (fun q => hj q.2)]
      exact hR j
  have finO : ∀ (τ : AS) (rs : RS) (C : List Nat) (a : Nat), tS σ τ → (∀ k, gI τ 202 k = gI σ 202 k) → gI τ 200 1 = nI 0 → PO tp a a τ → MRS rs C τ → res = .ok rs → P 50 [some tM, some (iv (nI 3))] [] τ := by
    intro τ rs C a hS hR h1 hO hM hr
    have h5 : gI (sI (sI τ 200 7 (gI τ 200 5)) 200 8 (gI (sI τ 200 7 (gI τ 200 5)) 200 6)) 200 5 = nI 0 := hO.2.1
    have S1 : mS [7, 8] [] τ (sI (sI τ 200 7 (gI τ 200 5)) 200 8 (gI (sI τ 200 7 (gI τ 200 5)) 200 6)) := (mS.rf.f rfl).f rfl
    refine hP _ _ _ _ (And.intro (fun _ => ?_) (fun q => absurd h5 q))
    show callP G (true, g) l (d+9) mX6_stands [tM] (sI (sI τ 200 7 (gI τ 200 5)) 200 8 (gI (sI τ 200 7 (gI τ 200 5)) 200 6)) _ _
    have e7 : gI (sI (sI τ 200 7 (gI τ 200 5)) 200 8 (gI (sI τ 200 7 (gI τ 200 5)) 200 6)) 200 7 = nI 0 := hO.2.1
    have e8 : gI (sI (sI τ 200 7 (gI τ 200 5)) 200 8 (gI (sI τ 200 7 (gI τ 200 5)) 200 6)) 200 8 = - nI 1 := by obtain ⟨-, -, -, -, -, -, e, -, -, -, p10⟩ := hO; exact p10
    generalize (sI (sI τ 200 7 (gI τ 200 5)) 200 8 (gI (sI τ 200 7 (gI τ 200 5)) 200 6)) = τ2 at *
    have hr0 := hM.1
    obtain ⟨r0, m1, m2, m3, m4, m5, ⟨m6, m6a, m6b⟩, m7⟩ := hM
    have M2 : MRS rs C τ2 := ⟨r0, m1.keep S1 rfl, by rw [S1.i 200 33 rfl rfl]; exact m2, by rw [S1.i 200 32 rfl rfl]; exact m3, fun k z hz => by simp only [S1.ia 222 rfl rfl]; exact m4 k z hz, fun k z hz => by simp only [S1.ia 223 rfl rfl]; exact m5 k z hz, ⟨by rw [S1.i 200 35 rfl rfl]; exact m6, m6a, fun i v hv => by rw [S1.ia 224 rfl rfl]; exact m6b i v hv⟩, fun k z hz => by simp only [S1.ia 226 rfl rfl, S1.ia 227 rfl rfl]; exact m7 k z hz⟩
    have M3 := M2
    obtain ⟨-, m1, m2, m3, m4, m5, ⟨m6, m6a, m6b⟩, m7⟩ := M3
    refine mcall (c_stands G g l (d+7) τ2 C.length (Tns (townOf rs)) (Tnw (townOf rs)) rs.2.1 (Nsh (nowOf rs)) (Nat_ (nowOf rs)) (Nto (nowOf rs)) m6 m6a m3 m1.2.1.2.1 hr0.2.2.1.2.1 m1.2.1.2.2 hr0.2.2.1.2.2 (fun s hs => ?_) (fun w hw => ?_) (fun w hw => ?_)) (fun r t h8 => ?_)
    · obtain ⟨z, g1, g2, g3, g4⟩ := tw_st hr0 hs
      unfold Nsh
      rw [g4]
      exact (m4 s z g1).2.2.2.2
    · obtain ⟨z, g1, g2, g3, g4⟩ := tw_wk hr0 hw
      unfold Nat_
      rw [g4]
      exact (m5 w z g1).2.1
    · obtain ⟨z, g1, g2, g3, g4⟩ := tw_wk hr0 hw
      unfold Nto
      rw [g4]
      exact (m5 w z g1).2.2
    obtain ⟨rfl, T, k1, k2, k3, k4, k5, k6⟩ := h8
    show TwnPost res σ (some (iv (gI t 200 33))) t
    rw [hr]
    have T0 := T.1
    refine ⟨by rw [T0.i 200 33 rfl rfl, m2], ((hS.1.mono rfl rfl).tr (S1.mono rfl rfl)).tr (T0.mono rfl rfl), fun k => by rw [T0.ia 202 rfl rfl, S1.ia 202 rfl rfl]; exact hR k, by rw [T0.i 200 1 rfl rfl, S1.i 200 1 rfl rfl]; exact h1, by rw [T0.i 200 7 rfl rfl]; exact e7, by rw [T0.i 200 8 rfl rfl]; exact e8, hr0, M2.stands T k1 k2 k3 k4, k5, k6⟩
  have main : ∀ (m : Nat) (τ : AS) (rs : RS) (C : List Nat) (a : Nat), tp.length - a < m → tS σ τ → (∀ k, gI τ 202 k = gI σ 202 k) → gI τ 200 1 = nI 0 → PX tp (.ok a) τ → MRS rs C τ → C.length ≤ a → Wds τ → townL tp m rs a = res → P 40 [some tM, some (iv (nI 3))] [] τ := by
    intro m
    induction m with
    | zero => intro τ rs C a hm; omega
    | succ m ih =>
      intro τ rs C a hm hS hR h1 hX hM hC hw hL
      refine hP _ _ _ _ (And.intro (fun q => absurd (PE.bad0 hX) q) (fun _ => ?_))
      obtain ⟨a', hO⟩ := hX
      refine mcall (c_look G g l (d+7) τ tp a a' hO) (fun r s1 h8 => ?_)
      obtain ⟨rfl, S1, O1⟩ := h8
      have Q1 : rS τ s1 := rS.of S1 rfl
      have M1 := hM.keep (S1.mono (fs' := [2, 4, 5, 6, 27]) (ids' := []) rfl rfl)
      have R1 : ∀ k, gI s1 202 k = gI σ 202 k := fun k => by rw [S1.ia 202 rfl rfl]; exact hR k
      have g1 : gI s1 200 1 = nI 0 := by rw [S1.i 200 1 rfl rfl]; exact h1
      by_cases hla : tp.length ≤ a
      · refine And.intro (fun _ => ?_) (fun q => absurd ((byI_none O1.1.1 a).mpr hla) q)
        refine finO s1 rs C a (hS.tr (tS.ofr Q1)) R1 g1 O1 M1 ?_
        rw [← hL]
        unfold townL
        rw [if_pos hla]
      · refine And.intro (fun q => absurd ((byI_none O1.1.1 a).mp q) hla) (fun _ => ?_)
        refine mcall (c_statementTold G g l d s1 tp rs C a O1 (hw.rd Q1) M1 hC) (fun r s2 h9 => ?_)
        obtain ⟨rfl, Q2, h9⟩ := h9
        have R2 : ∀ k, gI s2 202 k = gI σ 202 k := fun k => by rw [Q2.1.ia 202 rfl rfl]; exact R1 k
        have g2 : gI s2 200 1 = nI 0 := by rw [Q2.1.i 200 1 rfl rfl]; exact g1
        have hS2 := (hS.tr (tS.ofr Q1)).tr (tS.ofr Q2)
        cases hs : stmtP tp rs a with
        | error f =>
          rw [hs] at h9
          have F2 : PF tp f s2 := h9
          show P 40 [some tM, some (iv (nI 3))] [] s2
          refine hP _ _ _ _ (And.intro (fun _ => ?_) (fun q => absurd q (pf_bad F2)))
          refine finE s2 f hS2 R2 g2 F2 ?_
          rw [← hL]
          unfold townL
          rw [if_neg hla, hs]
        | ok x =>
          rw [hs] at h9
          obtain ⟨X2, C2, hC2, M2⟩ := h9
          have hx := stmtP_ok hM.1 hO.2.2.2.2.1 hs
          refine ih s2 x.1 C2 x.2 (by omega) hS2 R2 g2 X2 M2 hC2 ((hw.rd Q1).rd Q2) ?_
          rw [← hL]
          conv => rhs; unfold townL
          rw [if_neg hla, hs]
  refine hP _ _ _ _ ?_
  show P 30 [some tM, some (iv (nI 0))] [] (sI (sI (sI (sI (sI (sI (sI (sI (sI σ 200 3 (gI σ 200 1)) 200 1 (nI 0)) 200 2 (nI 0)) 200 4 (- nI 1)) 200 5 (nI 0)) 200 6 (- nI 1)) 200 33 (nI 0)) 200 35 (nI 0)) 200 32 (nI 0))
  have Z : mS [1, 2, 3, 4, 5, 6, 32, 33, 35] [] σ (sI (sI (sI (sI (sI (sI (sI (sI (sI σ 200 3 (gI σ 200 1)) 200 1 (nI 0)) 200 2 (nI 0)) 200 4 (- nI 1)) 200 5 (nI 0)) 200 6 (- nI 1)) 200 33 (nI 0)) 200 35 (nI 0)) 200 32 (nI 0)) := (((((((((mS.rf.f rfl).f rfl).f rfl).f rfl).f rfl).f rfl).f rfl).f rfl).f rfl)
  have z3 : gI (sI (sI (sI (sI (sI (sI (sI (sI (sI σ 200 3 (gI σ 200 1)) 200 1 (nI 0)) 200 2 (nI 0)) 200 4 (- nI 1)) 200 5 (nI 0)) 200 6 (- nI 1)) 200 33 (nI 0)) 200 35 (nI 0)) 200 32 (nI 0)) 200 3 = nI tp.length := hT.2
  have z1 : gI (sI (sI (sI (sI (sI (sI (sI (sI (sI σ 200 3 (gI σ 200 1)) 200 1 (nI 0)) 200 2 (nI 0)) 200 4 (- nI 1)) 200 5 (nI 0)) 200 6 (- nI 1)) 200 33 (nI 0)) 200 35 (nI 0)) 200 32 (nI 0)) 200 1 = nI 0 := rfl
  have z2 : gI (sI (sI (sI (sI (sI (sI (sI (sI (sI σ 200 3 (gI σ 200 1)) 200 1 (nI 0)) 200 2 (nI 0)) 200 4 (- nI 1)) 200 5 (nI 0)) 200 6 (- nI 1)) 200 33 (nI 0)) 200 35 (nI 0)) 200 32 (nI 0)) 200 2 = nI 0 := rfl
  have z4 : gI (sI (sI (sI (sI (sI (sI (sI (sI (sI σ 200 3 (gI σ 200 1)) 200 1 (nI 0)) 200 2 (nI 0)) 200 4 (- nI 1)) 200 5 (nI 0)) 200 6 (- nI 1)) 200 33 (nI 0)) 200 35 (nI 0)) 200 32 (nI 0)) 200 4 = - nI 1 := rfl
  have z5 : gI (sI (sI (sI (sI (sI (sI (sI (sI (sI σ 200 3 (gI σ 200 1)) 200 1 (nI 0)) 200 2 (nI 0)) 200 4 (- nI 1)) 200 5 (nI 0)) 200 6 (- nI 1)) 200 33 (nI 0)) 200 35 (nI 0)) 200 32 (nI 0)) 200 5 = nI 0 := rfl
  have z6 : gI (sI (sI (sI (sI (sI (sI (sI (sI (sI σ 200 3 (gI σ 200 1)) 200 1 (nI 0)) 200 2 (nI 0)) 200 4 (- nI 1)) 200 5 (nI 0)) 200 6 (- nI 1)) 200 33 (nI 0)) 200 35 (nI 0)) 200 32 (nI 0)) 200 6 = - nI 1 := rfl
  have z33 : gI (sI (sI (sI (sI (sI (sI (sI (sI (sI σ 200 3 (gI σ 200 1)) 200 1 (nI 0)) 200 2 (nI 0)) 200 4 (- nI 1)) 200 5 (nI 0)) 200 6 (- nI 1)) 200 33 (nI 0)) 200 35 (nI 0)) 200 32 (nI 0)) 200 33 = nI 0 := rfl
  have z35 : gI (sI (sI (sI (sI (sI (sI (sI (sI (sI σ 200 3 (gI σ 200 1)) 200 1 (nI 0)) 200 2 (nI 0)) 200 4 (- nI 1)) 200 5 (nI 0)) 200 6 (- nI 1)) 200 33 (nI 0)) 200 35 (nI 0)) 200 32 (nI 0)) 200 35 = nI 0 := rfl
  have z32 : gI (sI (sI (sI (sI (sI (sI (sI (sI (sI σ 200 3 (gI σ 200 1)) 200 1 (nI 0)) 200 2 (nI 0)) 200 4 (- nI 1)) 200 5 (nI 0)) 200 6 (- nI 1)) 200 33 (nI 0)) 200 35 (nI 0)) 200 32 (nI 0)) 200 32 = nI 0 := rfl
  generalize (sI (sI (sI (sI (sI (sI (sI (sI (sI σ 200 3 (gI σ 200 1)) 200 1 (nI 0)) 200 2 (nI 0)) 200 4 (- nI 1)) 200 5 (nI 0)) 200 6 (- nI 1)) 200 33 (nI 0)) 200 35 (nI 0)) 200 32 (nI 0)) = s0 at *
  have loop : ∀ (m k : Nat) (τ : AS), k + m = 3 → mS [] [220] s0 τ → (∀ j, j < k → gI τ 220 j = nI 0) → (∀ j, 3 ≤ j → gI τ 220 j = gI s0 220 j) → P 30 [some tM, some (iv (nI k))] [] τ := by
    intro m
    induction m with
    | zero =>
      intro k τ hk hS f0 f1
      have hk3 : k = 3 := by omega
      subst hk3
      refine hP _ _ _ _ (And.intro (fun _ => ?_) (fun q => absurd (Int32.le_refl _) q))
      have hsk : skp tp 0 ≤ tp.length := skp_le (Nat.zero_le _)
      have B : PB tp τ := ⟨(hT.1.keep Z rfl).keep hS rfl, by rw [hS.i 200 3 rfl rfl]; exact z3⟩
      have hpr : prLD tp (skp tp 0) = false := by
        rcases Nat.eq_or_lt_of_le (skp_ge tp 0) with q | q
        · rw [← q]; rfl
        · exact skp_pr q
      have X : PX tp (.ok (skp tp 0)) τ := ⟨0, B, by rw [hS.i 200 5 rfl rfl]; exact z5, by rw [hS.i 200 2 rfl rfl]; exact z2, Nat.zero_le _, hsk, rfl, 0, by rw [hS.i 200 4 rfl rfl]; exact z4, Nat.zero_le _, by rw [hpr]; exact ⟨fun e => by omega, fun e => by cases e⟩, by rw [hS.i 200 6 rfl rfl]; exact z6⟩
      have M : MRS rs0 [] τ := ⟨rs0_ok, ⟨⟨by decide, by decide, by decide⟩, ⟨f0 0 (by omega), f0 1 (by omega), f0 2 (by omega)⟩, fun k hk i v hv => by
          have : nmK rs0.2.2.1 k = [] := by unfold nmK rs0; split; rfl; split <;> rfl
          rw [this] at hv
          simp at hv⟩, by rw [hS.i 200 33 rfl rfl]; exact z33, by rw [hS.i 200 32 rfl rfl]; exact z32, fun k z hz => by simp [rs0] at hz, fun k z hz => by simp [rs0] at hz, ⟨by rw [hS.i 200 35 rfl rfl]; exact z35, by decide, fun i v hv => by simp at hv⟩, fun k z hz => by simp [rs0] at hz⟩
      refine main (tp.length + 1) τ rs0 [] (skp tp 0) (by omega) ?_ (fun k => by rw [hS.ia 202 rfl rfl, Z.ia 202 rfl rfl]) (by rw [hS.i 200 1 rfl rfl]; exact z1) X M (Nat.zero_le _) ((hW.keep Z rfl).keep hS rfl) hres
      exact ⟨(Z.mono rfl rfl).tr (hS.mono rfl rfl), fun k hk => by rw [f1 k hk, Z.ia 220 rfl rfl], fun k _ => by rw [hS.la 221 rfl rfl, Z.la 221 rfl rfl], fun k _ => by rw [hS.ia 222 rfl rfl, Z.ia 222 rfl rfl], fun k _ => by rw [hS.ia 223 rfl rfl, Z.ia 223 rfl rfl], fun k _ => by rw [hS.ia 224 rfl rfl, Z.ia 224 rfl rfl], fun k _ => by rw [hS.ia 226 rfl rfl, Z.ia 226 rfl rfl], fun k _ => by rw [hS.ia 227 rfl rfl, Z.ia 227 rfl rfl]⟩
    | succ m ih =>
      intro k τ hk hS f0 f1
      refine hP _ _ _ _ (And.intro (fun q => absurd q (show ¬ nI 3 ≤ nI k from nI_ge (by omega) (by omega))) (fun _ => And.intro (show vp_in (nI k) 6 from vinN (by omega) (by decide)) ?_))
      show P 30 [some tM, some (iv (nI k + nI 1))] [] (sI τ 220 (nI k).toNatClampNeg (nI 0))
      rw [nI_add, clN (by omega)]
      refine ih (k+1) _ (by omega) (hS.a rfl) (fun j hj => ?_) (fun j hj => by rw [gI_sI, if_neg (by omega)]; exact f1 j hj)
      rw [gI_sI]
      by_cases hjk : j = k
      · rw [if_pos ⟨rfl, hjk⟩]
      · rw [if_neg (fun q => hjk q.2)]; exact f0 j (by omega)
  exact loop 3 0 s0 (by omega) mS.rf (fun j hj => absurd hj (Nat.not_lt_zero j)) (fun _ _ => rfl)
end TO_
