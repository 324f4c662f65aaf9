/-! MEMORY OF THE COMPONENT: frames that allow for new cells; sites of calls and fields at a reference that is known by an equation -/
abbrev rw_ (r : AR) : AV := .inr (.inr r)
def agr (P : Nat → Prop) (σ t : AS) : Prop := ∀ a, P a → (∀ k, gI t a k = gI σ a k ∧ gL t a k = gL σ a k ∧ gR true t a k = gR true σ a k) ∧ kd true t a = kd true σ a
theorem agr.rf {P : Nat → Prop} {σ : AS} : agr P σ σ := fun _ _ => ⟨fun _ => ⟨rfl, rfl, rfl⟩, rfl⟩
theorem agr.tr {P : Nat → Prop} {σ s t : AS} (h1 : agr P σ s) (h2 : agr P s t) : agr P σ t := fun a ha => ⟨fun k => ⟨((h2 a ha).1 k).1.trans ((h1 a ha).1 k).1, ((h2 a ha).1 k).2.1.trans ((h1 a ha).1 k).2.1, ((h2 a ha).1 k).2.2.trans ((h1 a ha).1 k).2.2⟩, (h2 a ha).2.trans (h1 a ha).2⟩
theorem agr.mono {P P' : Nat → Prop} {σ t : AS} (h : agr P σ t) (hp : ∀ a, P' a → P a) : agr P' σ t := fun a ha => h a (hp a ha)
/-- fields fs of the component, cells ids, new cells: nothing else has changed -/
def kS (fs ids : List Nat) (σ t : AS) : Prop := (∀ a k, a < zn σ → a ∉ ids → (a = 0 → k ∉ fs) → gI t a k = gI σ a k ∧ gL t a k = gL σ a k ∧ gR true t a k = gR true σ a k) ∧ (∀ a, a < zn σ → kd true t a = kd true σ a) ∧ zn σ ≤ zn t ∧ zu σ ≤ zu t
theorem kS.rf {fs ids : List Nat} {σ : AS} : kS fs ids σ σ := ⟨fun _ _ _ _ _ => ⟨rfl, rfl, rfl⟩, fun _ _ => rfl, Nat.le_refl _, Nat.le_refl _⟩
theorem kS.tr {fs ids : List Nat} {σ s t : AS} (h1 : kS fs ids σ s) (h2 : kS fs ids s t) : kS fs ids σ t :=
  ⟨fun a k h0 h3 h4 => by
    have q1 := h1.1 a k h0 h3 h4
    have q2 := h2.1 a k (Nat.lt_of_lt_of_le h0 h1.2.2.1) h3 h4
    exact ⟨q2.1.trans q1.1, q2.2.1.trans q1.2.1, q2.2.2.trans q1.2.2⟩,
   fun a h0 => (h2.2.1 a (Nat.lt_of_lt_of_le h0 h1.2.2.1)).trans (h1.2.1 a h0), Nat.le_trans h1.2.2.1 h2.2.2.1, Nat.le_trans h1.2.2.2 h2.2.2.2⟩
theorem kS.mono {fs ids fs' ids' : List Nat} {σ s : AS} (h : kS fs ids σ s) (h1 : fs.all (fun k => fs'.contains k) = true) (h2 : ids.all (fun k => ids'.contains k) = true) : kS fs' ids' σ s := by
  refine ⟨fun a k h0 h3 h4 => h.1 a k h0 (fun q => h3 ?_) (fun e q => h4 e ?_), h.2⟩
  · have := List.all_eq_true.mp h2 a q
    simpa using this
  · have := List.all_eq_true.mp h1 k q
    simpa using this
theorem gR_of {σ t : AS} (h : t.2.2 = σ.2.2) (a k : Nat) : gR true t a k = gR true σ a k := by
  show rfx a k (t.2.2.1 a k) = rfx a k (σ.2.2.1 a k)
  rw [h]
theorem kd_of {σ t : AS} (h : t.2.2 = σ.2.2) (a : Nat) : kd true t a = kd true σ a := by
  unfold kd
  rw [h]
theorem zn_of {σ t : AS} (h : t.2.2 = σ.2.2) : zn t = zn σ := by unfold zn; rw [h]
theorem zu_of {σ t : AS} (h : t.2.2 = σ.2.2) : zu t = zu σ := by unfold zu; rw [h]
theorem xS.k {fs ids : List Nat} {σ t : AS} (h : xS fs ids σ t) : kS fs ids σ t :=
  ⟨fun a k _ h3 h4 => ⟨(h.1 a k h3 h4).1, (h.1 a k h3 h4).2, gR_of h.2 a k⟩, fun a _ => kd_of h.2 a, Nat.le_of_eq (zn_of h.2).symm, Nat.le_of_eq (zu_of h.2).symm⟩
/-- the cells of a town, of a question: never changed again -/
def Qz (z a : Nat) : Prop := ((1 ≤ a ∧ a ≤ 7) ∨ 268 ≤ a) ∧ a < z
def ids_q (ids : List Nat) : Bool := ids.all (fun a => Nat.blt 7 a && Nat.blt a 268)
theorem ids_q_no {ids : List Nat} (h : ids_q ids = true) {z a : Nat} (ha : Qz z a) : a ∉ ids := by
  intro q
  have := List.all_eq_true.mp h a q
  rw [Bool.and_eq_true] at this
  have h1 : 7 < a := Nat.le_of_ble_eq_true this.1
  have h2 : a < 268 := Nat.le_of_ble_eq_true this.2
  have := ha.1
  omega
theorem kS.agr {fs ids : List Nat} {σ t : AS} (h : kS fs ids σ t) (hi : ids_q ids = true) : agr (Qz (zn σ)) σ t := fun a ha =>
  ⟨fun k => h.1 a k ha.2 (ids_q_no hi ha) (fun e => by have := ha.1; omega), h.2.1 a ha.2⟩
theorem xS.agr {fs ids : List Nat} {σ t : AS} (h : xS fs ids σ t) (hi : ids_q ids = true) (z : Nat) : agr (Qz z) σ t := fun a ha =>
  ⟨fun k => by
    have q := h.1 a k (ids_q_no hi ha) (fun e => by have := ha.1; omega)
    exact ⟨q.1, q.2, gR_of h.2 a k⟩, kd_of h.2 a⟩
theorem Qz.mono {z y a : Nat} (h : Qz z a) (hz : z ≤ y) : Qz y a := ⟨h.1, Nat.lt_of_lt_of_le h.2 hz⟩
/-! sites -/
abbrev nxt (g : GX) (ct : CTy) (tab : List Ent) (labs : List Nat) (P : KN) (N : Option AV → AS → Prop) (X : AS → Prop) (n i : Nat) (ls : LSt) (st : List AV) (s : AS) : Prop := match labs.contains i with
  | true => P i ls st s
  | false => run (true, g) ct tab labs P N X n i ls st s
section ST_
variable {g : GX} {ct : CTy} {tab : List Ent} {labs : List Nat} {P : KN} {N : Option AV → AS → Prop} {X : AS → Prop} {n i : Nat} {ls : LSt} {st : List AV} {σ : AS}
theorem run_at {e : Ent} (he : getE tab i = some e) (h : stp (true, g) ct i e ls st σ (fun i ls st s => nxt g ct tab labs P N X n i ls st s) N X) : run (true, g) ct tab labs P N X (n+1) i ls st σ := by
  unfold run
  rw [he]
  exact h
theorem sv0 {q pc ln a c mi : Nat} {tbl : List (Nat × Nat)} {r : AR} (he : getE tab i = some (.invokevirtual q, pc, ln, [0], tbl, none)) (hr : r = some (.inl a)) (hk : kd true σ a = (0, c)) (hl : lkp tbl c = some mi) (hs : Nat.ble (scat st) 8 = true) (h : ct mi [rf a] σ (fun r s => nxt g ct tab labs P N X n (i+1) ls (r.toList ++ st) s) X) : run (true, g) ct tab labs P N X (n+1) i ls (rw_ r :: st) σ := by
  subst hr
  refine run_at he ?_
  show Grd (Nat.beq (kd true σ a).1 0) (match lkp tbl (kd true σ a).2 with
    | some mi => Grd (Nat.ble (scat st) 8) (ct mi [rf a] σ (fun r s => nxt g ct tab labs P N X n (i+1) ls (r.toList ++ st) s) X)
    | none => False)
  rw [hk]
  show (match lkp tbl c with
    | some mi => Grd (Nat.ble (scat st) 8) (ct mi [rf a] σ (fun r s => nxt g ct tab labs P N X n (i+1) ls (r.toList ++ st) s) X)
    | none => False)
  rw [hl]
  exact grd hs h
theorem sv1 {q pc ln a c mi : Nat} {tbl : List (Nat × Nat)} {r : AR} {x : AV} (he : getE tab i = some (.invokevirtual q, pc, ln, [1], tbl, none)) (hr : r = some (.inl a)) (hk : kd true σ a = (0, c)) (hl : lkp tbl c = some mi) (hs : Nat.ble (scat st) 8 = true) (h : ct mi [rf a, x] σ (fun r s => nxt g ct tab labs P N X n (i+1) ls (r.toList ++ st) s) X) : run (true, g) ct tab labs P N X (n+1) i ls (x :: rw_ r :: st) σ := by
  subst hr
  refine run_at he ?_
  show Grd (Nat.beq (kd true σ a).1 0) (match lkp tbl (kd true σ a).2 with
    | some mi => Grd (Nat.ble (scat st) 8) (ct mi [rf a, x] σ (fun r s => nxt g ct tab labs P N X n (i+1) ls (r.toList ++ st) s) X)
    | none => False)
  rw [hk]
  show (match lkp tbl c with
    | some mi => Grd (Nat.ble (scat st) 8) (ct mi [rf a, x] σ (fun r s => nxt g ct tab labs P N X n (i+1) ls (r.toList ++ st) s) X)
    | none => False)
  rw [hl]
  exact grd hs h
theorem si0 {q z pc ln a c mi : Nat} {tbl : List (Nat × Nat)} {r : AR} (he : getE tab i = some (.invokeinterface q z, pc, ln, [0], tbl, none)) (hr : r = some (.inl a)) (hk : kd true σ a = (0, c)) (hl : lkp tbl c = some mi) (hs : Nat.ble (scat st) 8 = true) (h : ct mi [rf a] σ (fun r s => nxt g ct tab labs P N X n (i+1) ls (r.toList ++ st) s) X) : run (true, g) ct tab labs P N X (n+1) i ls (rw_ r :: st) σ := by
  subst hr
  refine run_at he ?_
  show Grd (Nat.beq (kd true σ a).1 0) (match lkp tbl (kd true σ a).2 with
    | some mi => Grd (Nat.ble (scat st) 8) (ct mi [rf a] σ (fun r s => nxt g ct tab labs P N X n (i+1) ls (r.toList ++ st) s) X)
    | none => False)
  rw [hk]
  show (match lkp tbl c with
    | some mi => Grd (Nat.ble (scat st) 8) (ct mi [rf a] σ (fun r s => nxt g ct tab labs P N X n (i+1) ls (r.toList ++ st) s) X)
    | none => False)
  rw [hl]
  exact grd hs h
theorem si1 {q z pc ln a c mi : Nat} {tbl : List (Nat × Nat)} {r : AR} {x : AV} (he : getE tab i = some (.invokeinterface q z, pc, ln, [1], tbl, none)) (hr : r = some (.inl a)) (hk : kd true σ a = (0, c)) (hl : lkp tbl c = some mi) (hs : Nat.ble (scat st) 8 = true) (h : ct mi [rf a, x] σ (fun r s => nxt g ct tab labs P N X n (i+1) ls (r.toList ++ st) s) X) : run (true, g) ct tab labs P N X (n+1) i ls (x :: rw_ r :: st) σ := by
  subst hr
  refine run_at he ?_
  show Grd (Nat.beq (kd true σ a).1 0) (match lkp tbl (kd true σ a).2 with
    | some mi => Grd (Nat.ble (scat st) 8) (ct mi [rf a, x] σ (fun r s => nxt g ct tab labs P N X n (i+1) ls (r.toList ++ st) s) X)
    | none => False)
  rw [hk]
  show (match lkp tbl c with
    | some mi => Grd (Nat.ble (scat st) 8) (ct mi [rf a, x] σ (fun r s => nxt g ct tab labs P N X n (i+1) ls (r.toList ++ st) s) X)
    | none => False)
  rw [hl]
  exact grd hs h
/-- a field at a reference -/
theorem sgf {q pc ln t f a c : Nat} {cs : List Nat} {tbl : List (Nat × Nat)} {hh : Option Nat} {r : AR} (he : getE tab i = some (.getfield q, pc, ln, t :: f :: cs, tbl, hh)) (hr : r = some (.inl a)) (hk : kd true σ a = (0, c)) (hc : cs.contains c = true) (h : nxt g ct tab labs P N X n (i+1) ls (ldf (true, g) σ t f (.inl a) :: st) σ) : run (true, g) ct tab labs P N X (n+1) i ls (rw_ r :: st) σ := by
  subst hr
  refine run_at he ?_
  show Grd (isOb (kd true σ a) cs) (nxt g ct tab labs P N X n (i+1) ls (ldf (true, g) σ t f (.inl a) :: st) σ)
  rw [hk]
  exact grd hc h
theorem ccast {q pc ln a c : Nat} {cs : List Nat} {tbl : List (Nat × Nat)} {hh : Option Nat} {r : AR} (he : getE tab i = some (.checkcast q, pc, ln, cs, tbl, hh)) (hr : r = some (.inl a)) (hk : kd true σ a = (0, c)) (hc : cs.contains (kcode0 c) = true) (h : nxt g ct tab labs P N X n (i+1) ls (rf a :: st) σ) : run (true, g) ct tab labs P N X (n+1) i ls (rw_ r :: st) σ := by
  subst hr
  refine run_at he ?_
  show Grd (cs.contains (kcode (kd true σ a))) (nxt g ct tab labs P N X n (i+1) ls (rf a :: st) σ)
  rw [hk]
  exact grd hc h
end ST_
/-! lists: their cell a, their array e with room for cap -/
def LSTe (P : Nat → Prop) (σ : AS) (a e cap : Nat) (es : List Nat) : Prop := (P a ∧ P e) ∧ kd true σ a = (0, 20) ∧ kd true σ e = (7, cap) ∧ gI σ a 2 = nI es.length ∧ gR true σ a 1 = some (.inl e) ∧ (es.length ≤ cap ∧ cap ≤ 2 * es.length + 4 ∧ es.length ≤ 4000) ∧ (∀ (i x : Nat), es[i]? = some x → gR true σ e i = some (.inl x)) ∧ (∀ j, es.length ≤ j → gR true σ e j = none)
def LST (P : Nat → Prop) (σ : AS) (a : Nat) (es : List Nat) : Prop := ∃ e cap, LSTe P σ a e cap es
theorem LSTe.keep {P P' : Nat → Prop} {σ t : AS} {a e cap : Nat} {es : List Nat} (h : LSTe P σ a e cap es) (hA : agr P σ t) (hp : ∀ a, P a → P' a) : LSTe P' t a e cap es := by
  obtain ⟨⟨p1, p2⟩, h1, h2, h3, h4, h5, h6, h7⟩ := h
  refine ⟨⟨hp _ p1, hp _ p2⟩, (hA a p1).2.trans h1, (hA e p2).2.trans h2, ((hA a p1).1 2).1.trans h3, ((hA a p1).1 1).2.2.trans h4, h5, fun i x hx => ((hA e p2).1 i).2.2.trans (h6 i x hx), fun j hj => ((hA e p2).1 j).2.2.trans (h7 j hj)⟩
theorem LST.keep {P P' : Nat → Prop} {σ t : AS} {a : Nat} {es : List Nat} (h : LST P σ a es) (hA : agr P σ t) (hp : ∀ a, P a → P' a) : LST P' t a es := by
  obtain ⟨e, cap, h⟩ := h
  exact ⟨e, cap, h.keep hA hp⟩
theorem LST.kd {P : Nat → Prop} {σ : AS} {a : Nat} {es : List Nat} (h : LST P σ a es) : kd true σ a = (0, 20) := by
  obtain ⟨e, cap, h⟩ := h
  exact h.2.1
section LS_
variable (G : CX) (g : GX) (l : Launch) (d : Nat) (σ : AS)
theorem l_size {P : Nat → Prop} {a : Nat} {es : List Nat} (h : LST P σ a es) : MC G g l (d+1) mJ2_size [rf a] σ (fun r t => r = some (iv (nI es.length)) ∧ t = σ) := by
  obtain ⟨e, cap, h⟩ := h
  refine MC0 tJ2_size rfl okJ2_size rfl rfl rfl rfl (fun P => ?_)
  refine grd (b := isOb (kd true σ a) _) (by rw [h.2.1]; rfl) ?_
  exact ⟨congrArg (fun z => some (iv z)) h.2.2.2.1, rfl⟩
theorem l_get {P : Nat → Prop} {a : Nat} {es : List Nat} (h : LST P σ a es) (z : Int32) (i x : Nat) (hz : z = nI i) (hx : es[i]? = some x) : MC G g l (d+3) mJ2_get [rf a, iv z] σ (fun r t => r = some (rf x) ∧ t = σ) := by
  subst hz
  obtain ⟨e, cap, h⟩ := h
  have hi : i < es.length := (List.getElem?_eq_some_iff.mp hx).1
  have h5 := h.2.2.2.2.2.1
  refine MC1 tJ2_get [3] rfl okJ2_get rfl rfl rfl rfl (fun P hP => ?_)
  refine hP _ _ _ _ ?_
  refine grd (b := isOb (kd true σ a) _) (by rw [h.2.1]; rfl) ?_
  show P 3 [some (rf a), some (iv (nI i))] [iv (gI σ a 2), iv (nI i)] σ
  rw [h.2.2.2.1]
  refine hP _ _ _ _ ?_
  refine mcall (j_check11 G g l d σ i es.length hi (by omega)) (fun r s1 h9 => ?_)
  obtain ⟨rfl, e9⟩ := h9
  subst e9
  refine grd (b := Nat.beq (kd true s1 a).1 0) (by rw [h.2.1]; rfl) ?_
  rw [show kdA (true, g) s1 (.inl a) = (0, 20) from h.2.1]
  refine mcall (j_elementData G g l (d+1) s1 a e i cap h.2.1 h.2.2.2.2.1 h.2.2.1 (by omega) (by omega)) (fun r s2 h9 => ?_)
  obtain ⟨rfl, e9⟩ := h9
  exact ⟨by rw [h.2.2.2.2.2.2.1 i x hx], e9⟩
end LS_
