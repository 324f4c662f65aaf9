section MV
variable (G : CX) (g : GX) (l : Launch) (d : Nat) (σ : AS)
def chk1 (c b : Nat) : Nat := (3 * c + b) % 251
def chk (im : List Nat) : Nat := im.foldl chk1 163
theorem chk_lt (im : List Nat) : chk im < 251 := by
  unfold chk
  have : ∀ (im : List Nat) (c : Nat), c < 251 → im.foldl chk1 c < 251 := by
    intro im
    induction im with
    | nil => intro c h; exact h
    | cons b im ih => intro c h; exact ih _ (Nat.mod_lt _ (by decide))
  exact this im 163 (by decide)
theorem chk_snoc (im : List Nat) (b : Nat) : chk (im ++ [b]) = chk1 (chk im) b := by unfold chk; rw [List.foldl_append]; rfl
/-- the image's bytes -/
def MIm (im : List Nat) (σ : AS) : Prop := (im.length ≤ 39 ∧ ∀ (k x : Nat), im[k]? = some x → gI σ 267 k = nI x ∧ x < 256) ∧ gI σ 200 99 = nI im.length
theorem MIm.keep {im : List Nat} {σ t : AS} {fs ids : List Nat} (h : MIm im σ) (hS : mS fs ids σ t) (h1 : ids.contains 267 = false) (h2 : (ids.contains 200 || fs.contains 99) = false) : MIm im t := by
  rw [Bool.or_eq_false_iff] at h2
  exact ⟨⟨h.1.1, fun k x e => by rw [hS.ia 267 h1 rfl]; exact h.1.2 k x e⟩, by rw [hS.i 200 99 h2.1 (by rw [h2.2]; rfl)]; exact h.2⟩
theorem MIm.push {tp : List Nat} {σ : AS} (h : MIm tp σ) (hl : tp.length < 39) (b : Nat) (hb : b < 256) : MIm (tp ++ [b]) (sI (sI σ 267 tp.length (nI b)) 200 99 (nI (tp.length + 1))) := by
  refine ⟨⟨by rw [List.length_append, List.length_singleton]; omega, fun k x e => ?_⟩, by rw [List.length_append]; rfl⟩
  rw [gI_sI, if_neg (by omega), gI_sI]
  rcases Nat.lt_trichotomy k tp.length with q | q | q
  · rw [List.getElem?_append_left q] at e
    rw [if_neg (by omega)]
    exact h.1.2 k x e
  · subst q
    rw [List.getElem?_append_right (Nat.le_refl _), Nat.sub_self] at e
    have e : some b = some x := e
    cases e
    exact ⟨by rw [if_pos ⟨rfl, rfl⟩], hb⟩
  · rw [List.getElem?_eq_none (by rw [List.length_append, List.length_singleton]; omega)] at e
    cases e
theorem c_writes (im : List Nat) (h : MIm im σ) (hl : im.length < 39) (x : Int32) (b : Nat) (hx : x = nI b) (hb : b < 256) : MC G g l (d+1) mX6_writes [tM, iv x] σ (fun r t => r = none ∧ mS [99] [267] σ t ∧ MIm (im ++ [b]) t) := by
  subst hx
  refine MC0 tX6_writes rfl okX6_writes rfl rfl rfl rfl (fun P => ?_)
  refine And.intro ?_ ⟨rfl, ?_, ?_⟩
  · show vp_in (gI σ 200 99) 39
    rw [h.2]
    exact vinN (by omega) (by decide)
  · exact (mS.rf.a rfl).f rfl
  · show MIm (im ++ [b]) (sI (sI σ 267 (gI σ 200 99).toNatClampNeg (nI b)) 200 99 (gI σ 200 99 + nI 1))
    rw [h.2, clN (by omega), nI_add]
    exact h.push hl b hb
set_option maxHeartbeats 1000000 in
theorem c_checked201 (tp : List Nat) (hl : tp.length ≤ 1600) (h : ∀ (k x : Nat), tp[k]? = some x → gI σ 201 k = nI x ∧ x < 256) (x : Int32) (m : Nat) (hx : x = nI m) (hm : m ≤ tp.length) : MC G g l (d+1) mX6_checked [.inr (.inr (some (.inl 201))), iv x] σ (fun r t => r = some (iv (nI (chk (tp.take m)))) ∧ t = σ) := by
  subst hx
  refine MC1 tX6_checked [4] rfl okX6_checked rfl rfl rfl rfl (fun P hP => hP _ _ _ _ ?_)
  have key : ∀ (i k : Nat), k + i = m → P 4 [some (.inr (.inr (some (.inl 201)))), some (iv (nI m)), some (iv (nI (chk (tp.take k)))), some (iv (nI k))] [] σ := by
    intro i
    induction i with
    | zero =>
      intro k hk
      have hk : k = m := by omega
      subst hk
      exact hP _ _ _ _ (And.intro (fun _ => ⟨rfl, rfl⟩) (fun q => absurd (Int32.le_refl _) q))
    | succ i ih =>
      intro k hk
      have hk2 : k < tp.length := by omega
      obtain ⟨a, b⟩ := h k tp[k] (List.getElem?_eq_getElem hk2)
      have hc := chk_lt (tp.take k)
      refine hP _ _ _ _ (And.intro (fun q => absurd q (nI_ge (by omega) (by omega))) (fun _ => And.intro (show vp_in (nI k) 1600 from vinN (by omega) (by decide)) (And.intro (by decide) ?_)))
      show P 4 [some (.inr (.inr (some (.inl 201)))), some (iv (nI m)), some (iv (nI 3 * nI (chk (tp.take k)) + gI σ 201 (nI k).toNatClampNeg - (nI 3 * nI (chk (tp.take k)) + gI σ 201 (nI k).toNatClampNeg) / nI 251 * nI 251)), some (iv (nI k + nI 1))] [] σ
      rw [clN (by omega), a, pk_mul, nI_add, pk_rem (by omega) (by omega) (by omega), nI_add]
      have e : (3 * chk (tp.take k) + tp[k]) % 251 = chk (tp.take (k+1)) := by
        rw [List.take_succ, List.getElem?_eq_getElem hk2]
        exact (chk_snoc _ _).symm
      rw [e]
      exact ih (k+1) (by omega)
  exact key m 0 (by omega)
set_option maxHeartbeats 1000000 in
theorem c_checked267 (tp : List Nat) (hl : tp.length ≤ 39) (h : ∀ (k x : Nat), tp[k]? = some x → gI σ 267 k = nI x ∧ x < 256) (x : Int32) (m : Nat) (hx : x = nI m) (hm : m ≤ tp.length) : MC G g l (d+1) mX6_checked [.inr (.inr (some (.inl 267))), iv x] σ (fun r t => r = some (iv (nI (chk (tp.take m)))) ∧ t = σ) := by
  subst hx
  refine MC1 tX6_checked [4] rfl okX6_checked rfl rfl rfl rfl (fun P hP => hP _ _ _ _ ?_)
  have key : ∀ (i k : Nat), k + i = m → P 4 [some (.inr (.inr (some (.inl 267)))), some (iv (nI m)), some (iv (nI (chk (tp.take k)))), some (iv (nI k))] [] σ := by
    intro i
    induction i with
    | zero =>
      intro k hk
      have hk : k = m := by omega
      subst hk
      exact hP _ _ _ _ (And.intro (fun _ => ⟨rfl, rfl⟩) (fun q => absurd (Int32.le_refl _) q))
    | succ i ih =>
      intro k hk
      have hk2 : k < tp.length := by omega
      obtain ⟨a, b⟩ := h k tp[k] (List.getElem?_eq_getElem hk2)
      have hc := chk_lt (tp.take k)
      refine hP _ _ _ _ (And.intro (fun q => absurd q (nI_ge (by omega) (by omega))) (fun _ => And.intro (show vp_in (nI k) 39 from vinN (by omega) (by decide)) (And.intro (by decide) ?_)))
      show P 4 [some (.inr (.inr (some (.inl 267)))), some (iv (nI m)), some (iv (nI 3 * nI (chk (tp.take k)) + gI σ 267 (nI k).toNatClampNeg - (nI 3 * nI (chk (tp.take k)) + gI σ 267 (nI k).toNatClampNeg) / nI 251 * nI 251)), some (iv (nI k + nI 1))] [] σ
      rw [clN (by omega), a, pk_mul, nI_add, pk_rem (by omega) (by omega) (by omega), nI_add]
      have e : (3 * chk (tp.take k) + tp[k]) % 251 = chk (tp.take (k+1)) := by
        rw [List.take_succ, List.getElem?_eq_getElem hk2]
        exact (chk_snoc _ _).symm
      rw [e]
      exact ih (k+1) (by omega)
  exact key m 0 (by omega)
def imgW (T : Twn) (n : Nws) : List Nat := [Nhr n / 256, Nhr n % 256] ++ (List.range (Tns T)).map (Nsh n) ++ (List.range (Tnw T)).flatMap (fun w => [Nat_ n w, Nto n w, Nfr n w / 256, Nfr n w % 256])
def imgF (T : Twn) (n : Nws) : List Nat := imgW T n ++ [chk (imgW T n)]
def q_octet (im : List Nat) (x : Int32) : Int32 := if inR x im.length = true then nI im[x.toNatClampNeg]! else - nI 1
theorem c_octet (im : List Nat) (h : MIm im σ) (x : Int32) : MC G g l (d+1) mX6_octet [tM, iv x] σ (fun r t => r = some (iv (q_octet im x)) ∧ t = σ) := by
  have hl := h.1.1
  have tl : (nI im.length).toInt = (im.length : Int) := nI_toInt (by omega)
  refine MC1 tX6_octet [11] rfl okX6_octet rfl rfl rfl rfl (fun P hP => ?_)
  have no : inR x im.length = false → P 11 [some tM, some (iv x)] [] σ := by
    intro e
    refine hP _ _ _ _ ⟨?_, rfl⟩
    unfold q_octet
    rw [if_neg (by rw [e]; decide)]
  refine hP _ _ _ _ ?_
  refine And.intro (fun q => no ?_) (fun q => And.intro (fun q1 => no ?_) (fun q1 => ?_))
  · have q : x < 0 := q
    rw [Int32.lt_iff_toInt_lt] at q
    have q : x.toInt < 0 := q
    exact decide_eq_false (fun e => by omega)
  · have q1 : gI σ 200 99 ≤ x := q1
    rw [h.2, Int32.le_iff_toInt_le, tl] at q1
    exact decide_eq_false (fun e => by omega)
  · have q : ¬ x < 0 := q
    rw [Int32.lt_iff_toInt_lt] at q
    have q : ¬ x.toInt < 0 := q
    have q1 : ¬ gI σ 200 99 ≤ x := q1
    rw [h.2, Int32.le_iff_toInt_le, tl] at q1
    have ok : inR x im.length = true := decide_eq_true ⟨by omega, by omega⟩
    obtain ⟨k, hk, rfl⟩ := inR_of ok (by omega)
    refine And.intro (show vp_in (nI k) 39 from vinN (by omega) (by decide)) ⟨?_, rfl⟩
    unfold q_octet
    rw [if_pos ok, clN (by omega)]
    rw [(h.1.2 k im[k]! (by rw [List.getElem?_eq_getElem hk, getElem!_pos im k hk])).1]
end MV
