/-! A METHOD'S CONTRACT out of its run -/
theorem run_sound {p : Program} {l : Launch} {e : Env} {R : Room} {s : State} {m : MethodId} {args : Array Value} {below : List Frame} {meth : Method} {c : Code} {Q : State → Prop} {G : CX} {g : GM} {own : String} {rt : Option FieldType} {cc : ByteArray} {nL d : Nat} {s0 : AS} {ini : Bool} {tab : List Ent} {labs : List Nat} {N : Option AV → AS → Prop} {X : AS → Prop} {hs : Nat → Option Nat}
    (F : WFx p l R s m args meth c G g own cc nL d s0 ini) (hdp : 1 ≤ d) (hT : TabOKH hs own rt cc tab) (hfin : tab.all (finOK nL ini) = true) (hret : RetH p l e R s m args below meth c G g cc rt Q N) (hthr : ThrH p l e R s m args below meth c G g hs Q X) (hcat : CatH p l e R s m args below meth c G g tab nL hs Q) :
    ∀ (n i : Nat) (ls : LSt) (st : List AV) (σ : AS), run g (callP G g l d) tab labs (Wk p l e R s m args below meth c G g tab nL Q) N X n i ls st σ → Wk p l e R s m args below meth c G g tab nL Q i ls st σ
  | 0, _, _, _, _, h => h.elim
  | n+1, i, ls, st, σ, h => by
    simp only [run] at h
    split at h
    · rename_i ent hi
      refine stp_sound F hdp hT (List.all_eq_true.mp hfin) hret hthr hcat hi (getE_mem _ _ _ hi) (fun i ls st σ hk => ?_) h
      split at hk
      · exact hk
      · exact run_sound F hdp hT hfin hret hthr hcat n i ls st σ hk
    · exact h.elim
def lsOf : Nat → List AV → LSt
  | n, [] => List.replicate n none
  | n, .inr (.inl x) :: r => some (.inr (.inl x)) :: none :: lsOf (n - 2) r
  | n, v :: r => some v :: lsOf (n - 1) r
def argW : List AV → Nat
  | [] => 0
  | v :: r => acat v + argW r
theorem lsOf_at (G : CX) : ∀ (as : List AV) (n k i : Nat) (v : AV), argW as ≤ n → getL (lsOf n as) i = some v → (k + i, cv G v) ∈ lv_args k (as.map (cv G))
  | [], n, k, i, v, _, h => by
    exfalso
    have : ∀ (n i : Nat) (v : AV), ¬ getL (List.replicate n none) i = some v := by
      intro n
      induction n with
      | zero => intro i v h; simp [getL] at h
      | succ n ih =>
        intro i v h
        rw [List.replicate_succ] at h
        cases i with
        | zero => simp [getL] at h
        | succ i => exact ih i v h
    exact this n i v h
  | .inl x :: r, n, k, 0, v, _, h => by
    simp only [lsOf, getL, Option.some.injEq] at h
    subst h
    exact List.mem_cons_self
  | .inl x :: r, n, k, i+1, v, hw, h => by
    have := lsOf_at G r (n - 1) (k + 1) i v (by simp only [argW, acat] at hw; omega) h
    rw [show k + (i + 1) = k + 1 + i by omega]
    exact List.mem_cons_of_mem _ this
  | .inr (.inr x) :: r, n, k, 0, v, _, h => by
    simp only [lsOf, getL, Option.some.injEq] at h
    subst h
    exact List.mem_cons_self
  | .inr (.inr x) :: r, n, k, i+1, v, hw, h => by
    have := lsOf_at G r (n - 1) (k + 1) i v (by simp only [argW, acat] at hw; omega) h
    rw [show k + (i + 1) = k + 1 + i by omega]
    refine List.mem_cons_of_mem _ ?_
    have hc : ¬ (cv G (.inr (.inr x))).category = 2 := by rw [cv_cat]; simp [acat]
    show _ ∈ lv_args (if (cv G (.inr (.inr x))).category = 2 then k + 2 else k + 1) _
    rw [if_neg hc]
    exact this
  | .inr (.inl x) :: r, n, k, 0, v, _, h => by
    simp only [lsOf, getL, Option.some.injEq] at h
    subst h
    exact List.mem_cons_self
  | .inr (.inl x) :: r, n, k, 1, v, _, h => by simp [lsOf, getL] at h
  | .inr (.inl x) :: r, n, k, i+2, v, hw, h => by
    have := lsOf_at G r (n - 2) (k + 2) i v (by simp only [argW, acat] at hw; omega) h
    rw [show k + (i + 2) = k + 2 + i by omega]
    exact List.mem_cons_of_mem _ this
theorem lsOf_len : ∀ (as : List AV) (n : Nat), argW as ≤ n → (lsOf n as).length = n
  | [], n, _ => by simp [lsOf]
  | .inl x :: r, n, h => by
    have := lsOf_len r (n - 1) (by simp only [argW, acat] at h; omega)
    simp only [argW, acat] at h
    simp only [lsOf, List.length_cons, this]; omega
  | .inr (.inr x) :: r, n, h => by
    have := lsOf_len r (n - 1) (by simp only [argW, acat] at h; omega)
    simp only [argW, acat] at h
    simp only [lsOf, List.length_cons, this]; omega
  | .inr (.inl x) :: r, n, h => by
    have := lsOf_len r (n - 2) (by simp only [argW, acat] at h; omega)
    simp only [argW, acat] at h
    simp only [lsOf, List.length_cons, this]; omega
theorem lg_sl_len (G : CX) : ∀ as : List AV, (lg_sl (as.map (cv G))).length = argW as
  | [] => rfl
  | .inl x :: r => by
    have := lg_sl_len G r
    simp only [argW, acat, ← this]
    show (lg_sl (.int x :: r.map (cv G))).length = _
    simp [lg_sl, Value.category]; omega
  | .inr (.inl x) :: r => by
    have := lg_sl_len G r
    simp only [argW, acat, ← this]
    show (lg_sl (.long x :: r.map (cv G))).length = _
    simp [lg_sl, Value.category]; omega
  | .inr (.inr none) :: r => by
    have := lg_sl_len G r
    simp only [argW, acat, ← this]
    show (lg_sl (.null :: r.map (cv G))).length = _
    simp [lg_sl, Value.category]; omega
  | .inr (.inr (some a)) :: r => by
    have := lg_sl_len G r
    simp only [argW, acat, ← this]
    show (lg_sl (.ref (ad G a) :: r.map (cv G))).length = _
    simp [lg_sl, Value.category]; omega
