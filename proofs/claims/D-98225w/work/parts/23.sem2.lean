/-! CONTRACTS over abstract states, and what a method's table of instructions must be -/
def tysL (G : CX) : List (ClassId × FieldType) := (List.range 11).map (fun t => (G.2.1 t, tyOf t))
def mvW : Jvm.Cond → Bool
  | .fieldLinkNest .. => true
  | .methodLinkNest .. => true
  | .castable .. => true
  | .declares .. => true
  | _ => false
theorem mvW_moved {w : Jvm.Cond} {s U : State} (h : mvW w = true) (hW : s.WarmedH U.vm) (hZ : va_Nw w s) : va_Nw w U := by
  cases w <;> first | exact hZ.warmF hW | exact va_Nw.warmF hW hZ | exact va_Nw.warmM hW hZ | exact va_Nw.warmC hW hZ | exact va_Nw.warmD hW hZ | (simp [mvW] at h)
def oval (G : CX) (g : GM) (j k t : Nat) : Value := match t with
  | 6 => .long 0
  | 0 => .int (oI g.2.2.1 j k)
  | 1 => .int (oI g.2.2.1 j k)
  | 2 => .int (oI g.2.2.1 j k)
  | 3 => .int (oI g.2.2.1 j k)
  | 4 => .int (oI g.2.2.1 j k)
  | 5 => .int (oI g.2.2.1 j k)
  | _ => rv G (oR j k)
/-- the old objects, as the tables have them -/
def OldOK (G : CX) (g : GM) (U : State) : Prop := ∀ j, (oK g.2.1 j).1 ≤ 10 → G.2.2.2.2.2 j < G.2.2.1 ∧ ∃ cell : Cell, G.2.2.2.2.1[G.2.2.2.2.2 j]? = some cell ∧ cell.vm.isStatics = false ∧ cell.vm ≠ .unknown ∧
  ((oK g.2.1 j).1 = 0 → cell.cls = G.1.1 (oK g.2.1 j).2 ∧ ∀ k, k < nfc (oK g.2.1 j).2 → cell.slots[G.1.2 (oK g.2.1 j).2 k]? = some (oval G g j k (ftc (oK g.2.1 j).2 k))) ∧
  (1 ≤ (oK g.2.1 j).1 → U.isArrayOf cell (tyOf (oK g.2.1 j).1) ∧ ((oK g.2.1 j).2 ≤ cell.slots.size ∧ cell.slots.size.toInt32 = nI (oK g.2.1 j).2) ∧ ∀ k, k < (oK g.2.1 j).2 → cell.slots[k]? = some (oval G g j k (oK g.2.1 j).1))
theorem OldOK.moved {G : CX} {g : GM} {s U : State} (hW : s.vm.Alike U.vm) (h : OldOK G g s) : OldOK G g U := by
  intro j hj
  obtain ⟨h1, cell, h2, h3, h4, h5, h6⟩ := h j hj
  exact ⟨h1, cell, h2, h3, h4, h5, fun q => ⟨State.isArrayOf_alike hW (h6 q).1, (h6 q).2⟩⟩
/-! statics, string constants, arrays over classes, interfaces: what else the tables say -/
def sval (G : CX) (g : GM) : List Nat → Value
  | [0, v] => .int (nI v)
  | [1, j] => .ref (G.2.2.2.2.2 j)
  | [2, j] => rv G (g.2.2.2 j)
  | _ => .null
def va_AOa (U : State) : Prop := (Cond.arrayOver (.array .int)).before #[] U = true
theorem va_AOa.moved {u U : State} (hvm : u.vm.Alike U.vm) (h : va_AOa u) : va_AOa U := over_moved hvm h
def faceL : List (MethodName × MethodName) := [(⟨"java/util/List", "size", "()I"⟩, ⟨"java/util/ArrayList", "size", "()I"⟩), (⟨"java/util/List", "get", "(I)Ljava/lang/Object;"⟩, ⟨"java/util/ArrayList", "get", "(I)Ljava/lang/Object;"⟩), (⟨"java/util/List", "add", "(Ljava/lang/Object;)Z"⟩, ⟨"java/util/ArrayList", "add", "(Ljava/lang/Object;)Z"⟩)]
theorem faceL_x : ∀ q ∈ faceL, q.1.cls ≠ "java/lang/invoke/MethodHandle" ∧ q.1.cls ≠ "java/lang/invoke/VarHandle" := by decide
def privL : List MethodName := [⟨"java/lang/AbstractStringBuilde\x72", "ensureCapacityInternal", "(I)V"⟩, ⟨"java/lang/AbstractStringBuilde\x72", "newCapacity", "(I)I"⟩]
theorem sel_warm {C : String} {x y : MethodName} {s U : State} (hW : s.WarmedH U.vm) (h : va_Nw (.selects C x y) s) : va_Nw (.selects C x y) U := word_at hW (Or.inl (by first | rfl | simp [Cond.onTables, Cond.keeps, Cond.steady])) h
def Ext (G : CX) (g : GM) (U : State) : Prop := (∀ q ∈ statL, va_Z q.1 q.2.1 q.2.2.1 (sval G g q.2.2.2) (fun a => G.2.2.1 ≤ a) U G.2.2.2.2.1) ∧ (∀ q ∈ strL, vk_R q.1 q.2.1 q.2.2.1 (G.2.2.2.2.2 q.2.2.2) U) ∧ (va_AO "java/lang/Object" U ∧ va_AO "BreathTown$State" U ∧ va_AOa U) ∧ (∀ q ∈ faceL, va_Fw "java/util/ArrayList" q.1 q.2 U) ∧ va_Mi "[Ljava/lang/Object;" (G.2.2.2.2.2 95) U ∧ (∀ y ∈ privL, va_Nw (.selects "java/lang/StringBuilde\x72" y y) U)
theorem Ext.moved {G : CX} {g : GM} {s U : State} (hW : s.WarmedH U.vm) (h : Ext G g s) : Ext G g U :=
  ⟨fun q hq => (h.1 q hq).moved hW.alike, fun q hq => (h.2.1 q hq).warm hW, ⟨h.2.2.1.1.moved hW.alike, h.2.2.1.2.1.moved hW.alike, h.2.2.1.2.2.moved hW.alike⟩, fun q hq => (h.2.2.2.1 q hq).moved (faceL_x q hq) hW.alike, h.2.2.2.2.1.moved hW.alike, fun y hy => sel_warm hW (h.2.2.2.2.2 y hy)⟩
theorem Ext.calling {G : CX} {g : GM} {U : State} {f : JFrame} {mk : MethodId} {a : Array Value} (h : Ext G g U) : Ext G g (U.calling f mk a) :=
  ⟨fun q hq => va_Z.moved (u := U) (U := U.calling f mk a) (Vm.Alike.refl U.vm) (h.1 q hq), fun q hq => vk_R.same (u := U) (U := U.calling f mk a) rfl (h.2.1 q hq), ⟨va_AO.moved (u := U) (U := U.calling f mk a) (Vm.Alike.refl U.vm) h.2.2.1.1, va_AO.moved (u := U) (U := U.calling f mk a) (Vm.Alike.refl U.vm) h.2.2.1.2.1, va_AOa.moved (u := U) (U := U.calling f mk a) (Vm.Alike.refl U.vm) h.2.2.1.2.2⟩, fun q hq => va_Fw.moved (faceL_x q hq) (u := U) (U := U.calling f mk a) (Vm.Alike.refl U.vm) (h.2.2.2.1 q hq), va_Mi.moved (u := U) (U := U.calling f mk a) (Vm.Alike.refl U.vm) h.2.2.2.2.1, fun y hy => va_Nw.same rfl (u := U) (U := U.calling f mk a) rfl (h.2.2.2.2.2 y hy)⟩
def TF (G : CX) (g : GM) (U : State) : Prop := va_K G.1 clT (tysL G) U ∧ (∀ w ∈ lw_tbl, mvW w = true → va_Nw w U) ∧ OldOK G g U ∧ Ext G g U
theorem TF.moved {G : CX} {g : GM} {s U : State} (hW : s.WarmedH U.vm) (h : TF G g s) : TF G g U := ⟨va_K.moved hW.alike h.1, fun w hw hm => mvW_moved hm hW (h.2.1 w hw hm), h.2.2.1.moved hW.alike, h.2.2.2.moved hW⟩
theorem mvW_onT {w : Jvm.Cond} (h : mvW w = true) : w.onTables = true := by
  cases w <;> first | rfl | (simp [mvW] at h)
theorem TF.calling {G : CX} {g : GM} {U : State} {f : JFrame} {mk : MethodId} {a : Array Value} (h : TF G g U) : TF G g (U.calling f mk a) :=
  ⟨va_K.moved (u := U) (U := U.calling f mk a) (Vm.Alike.refl U.vm) h.1, fun w hw hm => va_Nw.same (mvW_onT hm) (u := U) (U := U.calling f mk a) rfl (h.2.1 w hw hm), h.2.2.1.moved (U := U.calling f mk a) (Vm.Alike.refl U.vm), h.2.2.2.calling⟩
abbrev MI : Type := MethodName × ByteArray × Nat × Option FieldType × List (Nat × Nat × Nat × Nat)
def getM : List MI → Nat → Option MI
  | [], _ => none
  | x :: _, 0 => some x
  | _ :: t, n+1 => getM t n
def wOf (q : MI) : List Jvm.Cond := match q.2.2.2.2 with
  | [] => ws_ q.1 q.2.1 q.2.2.1 q.2.2.2.1
  | h :: t => wsW_ q.1 q.2.1 q.2.2.1 q.2.2.2.1 (h :: t)
def rmA (d : Nat) (s : AS) : Room := { frames := d, cells := CMAX - zn s, slots := SMAX - zu s, locals := 64 * d }
def PcA (G : CX) (g : GM) (as : List AV) (s : AS) : Array Value → State → Prop := fun v U => v = (as.map (cv G)).toArray ∧ Hold G g.1 s U.heap ∧ TF G g U
def QcA (G : CX) (g : GM) (N : Option AV → AS → Prop) : Array Value → State → Outcome → State → Prop := fun _ _ oc t => ∃ (r : Option AV) (s' : AS), oc = .returned (r.map (cv G)) ∧ N r s' ∧ Hold G g.1 s' t.heap
def XcA (G : CX) (g : GM) (X : AS → Prop) : Addr → String → State → State → Prop := fun q E _ t => E = "BreathTown$Fault" ∧ q = G.2.2.1 + 10 ∧ ∃ s' : AS, X s' ∧ Hold G g.1 s' t.heap
/-- method q's contract at depth d: from the abstract state s with arguments as it returns with N or throws the fault with X -/
def CTm (G : CX) (g : GM) (l : Launch) (d : Nat) (q : MI) (as : List AV) (s : AS) (N : Option AV → AS → Prop) (X : AS → Prop) : Prop :=
  vx_Met l q.1 (wOf q) (rmA d s) (PcA G g as s) (QcA G g N) (XcA G g X) (CMAX - zn s) (SMAX - zu s) (fun a => G.2.2.1 ≤ a)
def CT (G : CX) (g : GM) (l : Launch) (d mi : Nat) (as : List AV) (s : AS) (N : Option AV → AS → Prop) (X : AS → Prop) : Prop := ∃ q, getM MT mi = some q ∧ CTm G g l d q as s N X
def callP (G : CX) (g : GM) (l : Launch) : Nat → CTy
  | 0 => fun _ _ _ _ _ => False
  | d+1 => fun mi as s kn kx => ∃ N X, CT G g l d mi as s N X ∧ (∀ r s', N r s' → kn r s') ∧ (∀ s', X s' → kx s')
theorem PcA_blind (G : CX) (g : GM) (as : List AV) (s : AS) : FrameBlind (PcA G g as s) := fun _ _ _ _ h => ⟨h.1, h.2.1, h.2.2.calling⟩
/-! tables of instructions -/
def pcAt (tab : List Ent) (i : Nat) : Nat := match getE tab i with
  | some e => e.2.1
  | none => 0
def ilen : Instr → Nat
  | .aload_n _ => 1
  | .aload _ => 2
  | .iload_n _ => 1
  | .iload _ => 2
  | .lload_n _ => 1
  | .lload _ => 2
  | .istore_n _ => 1
  | .istore _ => 2
  | .astore_n _ => 1
  | .astore _ => 2
  | .lstore_n _ => 1
  | .lstore _ => 2
  | .iinc _ _ => 3
  | .iconst _ => 1
  | .bipush _ => 2
  | .sipush _ => 3
  | .lconst _ => 1
  | .aconst_null => 1
  | .ldc _ => 2
  | .ldc_w _ => 3
  | .ldc2_w _ => 3
  | .ifCond _ _ => 3
  | .if_icmp _ _ => 3
  | .ifnull _ => 3
  | .ifnonnull _ => 3
  | .if_acmp _ _ => 3
  | .goto _ => 3
  | .getfield _ => 3
  | .putfield _ => 3
  | .getstatic _ => 3
  | .new _ => 3
  | .newarray _ => 2
  | .anewarray _ => 3
  | .multianewarray _ _ => 4
  | .checkcast _ => 3
  | .instanceof _ => 3
  | .invokestatic _ => 3
  | .invokespecial _ => 3
  | .invokevirtual _ => 3
  | .invokeinterface _ _ => 5
  | _ => 1
def tgtOK (tab : List Ent) (pc : Nat) (off : Int) (t : Nat) : Bool := decide ((pc : Int) + off = (pcAt tab t : Int))
def allT (tab : List Ent) (pc : Nat) : List Int → List Nat → Bool
  | [], [] => true
  | o :: r, t :: u => tgtOK tab pc o t && allT tab pc r u
  | _, _ => false
def entChk (tab : List Ent) (i : Nat) (e : Ent) : Bool := match e.1 with
  | .goto off => (match e.2.2.2.1 with
    | [t] => tgtOK tab e.2.1 off t && Nat.beq e.2.2.1 3
    | _ => false)
  | .ifCond _ off => (match e.2.2.2.1 with
    | [t] => tgtOK tab e.2.1 off t && Nat.beq e.2.2.1 3 && Nat.beq (pcAt tab (i+1)) (e.2.1 + e.2.2.1)
    | _ => false)
  | .if_icmp _ off => (match e.2.2.2.1 with
    | [t] => tgtOK tab e.2.1 off t && Nat.beq e.2.2.1 3 && Nat.beq (pcAt tab (i+1)) (e.2.1 + e.2.2.1)
    | _ => false)
  | .ifnull off => (match e.2.2.2.1 with
    | [t] => tgtOK tab e.2.1 off t && Nat.beq e.2.2.1 3 && Nat.beq (pcAt tab (i+1)) (e.2.1 + e.2.2.1)
    | _ => false)
  | .ifnonnull off => (match e.2.2.2.1 with
    | [t] => tgtOK tab e.2.1 off t && Nat.beq e.2.2.1 3 && Nat.beq (pcAt tab (i+1)) (e.2.1 + e.2.2.1)
    | _ => false)
  | .if_acmp _ off => (match e.2.2.2.1 with
    | [t] => tgtOK tab e.2.1 off t && Nat.beq e.2.2.1 3 && Nat.beq (pcAt tab (i+1)) (e.2.1 + e.2.2.1)
    | _ => false)
  | .tableswitch d lo hi offs => (match e.2.2.2.1 with
    | t :: ts => tgtOK tab e.2.1 d t && allT tab e.2.1 offs.toList ts && decide (hi = lo + (ts.length : Int) - 1) && decide (-1000000 ≤ lo) && decide (hi ≤ 1000000)
    | _ => false)
  | .lookupswitch d ps => (match e.2.2.2.1 with
    | t :: ts => tgtOK tab e.2.1 d t && allT tab e.2.1 (ps.toList.map (fun q => q.2)) ts && (ps.toList.zip (ps.toList.drop 1)).all (fun (a, next) => a.1 < next.1) && ps.toList.all (fun q => decide (-2147483648 ≤ q.1) && decide (q.1 < 2147483648))
    | _ => false)
  | .ireturn => Nat.beq e.2.2.1 1
  | .lreturn => Nat.beq e.2.2.1 1
  | .areturn => Nat.beq e.2.2.1 1
  | .return_ => Nat.beq e.2.2.1 1
  | .athrow => Nat.beq e.2.2.1 1
  | ins => Nat.beq e.2.2.1 (ilen ins) && Nat.beq (pcAt tab (i+1)) (e.2.1 + e.2.2.1)
def tabChk (tab : List Ent) : Nat → List Ent → Bool
  | _, [] => true
  | i, e :: r => entChk tab i e && tabChk tab (i+1) r
theorem tabChk_at {tab : List Ent} : ∀ (r : List Ent) (i j : Nat) (e : Ent), tabChk tab i r = true → getE r j = some e → entChk tab (i + j) e = true
  | [], _, _, _, _, h => by simp [getE] at h
  | x :: r, i, 0, e, h, hg => by
    simp only [tabChk, Bool.and_eq_true] at h
    simp only [getE, Option.some.injEq] at hg
    subst hg
    exact h.1
  | x :: r, i, j+1, e, h, hg => by
    simp only [tabChk, Bool.and_eq_true] at h
    have := tabChk_at r (i+1) j e h.2 hg
    rw [show i + 1 + j = i + (j + 1) by omega] at this
    exact this
def tcd : FieldType → Nat
  | .boolean => 1
  | .byte => 2
  | .char => 3
  | .short => 4
  | .int => 5
  | .long => 6
  | .object _ => 7
  | .array _ => 7
  | _ => 0
/-- class c of the table -/
def CF (c : Nat) (C : String) (T : u_T) (N : Nat) (ty : Nat → FieldType) : Prop :=
  clT[c]? = some (C, T, N) ∧ nfc c = N ∧ (∀ k, k < N → ftc c k = tcd (ty k) ∧ 1 ≤ tcd (ty k)) ∧ (∀ w ∈ u_ws C T N, w ∈ lw_all) ∧ (∀ k, k < N → parseFieldDescriptor (T k).2.2.1 = some (ty k)) ∧ (∀ a, a < N → ∀ b, b < N → a ≠ b → (T a).2.1 ≠ (T b).2.1)
/-- an entry of own's pool is field f of class c -/
def FL (own : String) (idx c f t : Nat) (fin : Bool) : Prop := ∃ (C : String) (T : u_T) (N : Nat) (ty : Nat → FieldType), CF c C T N ty ∧ f < N ∧ tcd (ty f) = t ∧ (T f).2.2.2 = fin ∧
  ((Cond.fieldLink own idx (T f).1 (T f).2.1 (T f).2.2.1 ∈ lw_all) ∨ (∃ host, Cond.fieldLinkNest own idx (T f).1 (T f).2.1 (T f).2.2.1 host ∈ lw_tbl) ∨ ∃ ref, Cond.fieldLink own idx ref (T f).2.1 (T f).2.2.1 ∈ lw_all ∧ Cond.sameField ref (T f).1 (T f).2.1 (T f).2.2.1 ∈ lw_all) ∧ (fin = true → (T f).1 = own)
def FLg (own : String) (idx c f t : Nat) : Prop := ∃ (C : String) (T : u_T) (N : Nat) (ty : Nat → FieldType), CF c C T N ty ∧ f < N ∧ tcd (ty f) = t ∧
  ((Cond.fieldLink own idx (T f).1 (T f).2.1 (T f).2.2.1 ∈ lw_all) ∨ (∃ host, Cond.fieldLinkNest own idx (T f).1 (T f).2.1 (T f).2.2.1 host ∈ lw_tbl) ∨ ∃ ref, Cond.fieldLink own idx ref (T f).2.1 (T f).2.2.1 ∈ lw_all ∧ Cond.sameField ref (T f).1 (T f).2.1 (T f).2.2.1 ∈ lw_all)
def FLgs (own : String) (idx f t : Nat) : List Nat → Prop
  | [] => True
  | c :: r => FLg own idx c f t ∧ FLgs own idx f t r
theorem FLgs_mem {own : String} {idx f t : Nat} : ∀ (cs : List Nat) (c : Nat), FLgs own idx f t cs → c ∈ cs → FLg own idx c f t
  | [], _, _, h => by simp at h
  | x :: r, c, h, hc => by
    rcases List.mem_cons.mp hc with rfl | hc
    · exact h.1
    · exact FLgs_mem r c h.2 hc
def FLs (own : String) (idx f t : Nat) (fin : Bool) : List Nat → Prop
  | [] => True
  | c :: r => FL own idx c f t fin ∧ FLs own idx f t fin r
theorem FLs_mem {own : String} {idx f t : Nat} {fin : Bool} : ∀ (cs : List Nat) (c : Nat), FLs own idx f t fin cs → c ∈ cs → FL own idx c f t fin
  | [], _, _, h => by simp at h
  | x :: r, c, h, hc => by
    rcases List.mem_cons.mp hc with rfl | hc
    · exact h.1
    · exact FLs_mem r c h.2 hc
def parN (y : MethodName) (n : Nat) : Prop := y.cls ≠ "java/lang/invoke/MethodHandle" ∧ y.cls ≠ "java/lang/invoke/VarHandle" ∧ (parseMethodDescriptor y.desc).map (fun d => d.parameters.length) = some n
theorem lw_five {a b c d e : Cond} {ws : List Cond} (h1 : a ∈ lw_all) (h2 : b ∈ lw_all) (h3 : c ∈ lw_all) (h4 : d ∈ lw_all) (h5 : e ∈ lw_all) (hc : GoodIn lw_all ws) : GoodIn lw_all (([a, b, c, d, e] : List Cond) ++ ws) :=
  lw_app (by
    intro w hw
    simp only [List.mem_cons, List.not_mem_nil, or_false] at hw
    rcases hw with rfl | rfl | rfl | rfl | rfl <;> assumption) hc
theorem lw_four {a b c d : Cond} {ws : List Cond} (h1 : a ∈ lw_all) (h2 : b ∈ lw_all) (h3 : c ∈ lw_all) (h4 : d ∈ lw_all) (hc : GoodIn lw_all ws) : GoodIn lw_all (([a, b, c, d] : List Cond) ++ ws) :=
  lw_app (by
    intro w hw
    simp only [List.mem_cons, List.not_mem_nil, or_false] at hw
    rcases hw with rfl | rfl | rfl | rfl <;> assumption) hc
def parD (o desc : String) (n : Nat) : Prop := o ≠ "java/lang/invoke/MethodHandle" ∧ o ≠ "java/lang/invoke/VarHandle" ∧ (parseMethodDescriptor desc).map (fun d => d.parameters.length) = some n
def SOK1 (own : String) (idx n mi : Nat) : Prop := ∃ y cc mL rt, getM MT mi = some (y, cc, mL, rt, []) ∧ GoodIn lw_all (va_wsS own idx y (ws_ y cc mL rt)) ∧ parN y n ∧ mL ≤ 40
def SOKN (own : String) (idx n mi : Nat) : Prop := ∃ y cc mL rt host, getM MT mi = some (y, cc, mL, rt, []) ∧ Cond.methodLinkNest own idx y host ∈ lw_tbl ∧ Cond.static y ∈ lw_all ∧ Cond.initialized y.cls ∈ lw_all ∧ Cond.code y cc mL rt ∈ lw_all ∧ parN y n ∧ mL ≤ 40
def SOK (own : String) (idx n mi : Nat) : Prop := SOK1 own idx n mi ∨ SOKN own idx n mi
def IOK1 (own : String) (idx n mi : Nat) : Prop := ∃ y cc mL, getM MT mi = some (y, cc, mL, none, []) ∧ Cond.code y cc mL none ∈ lw_all ∧ Cond.initialized y.cls ∈ lw_all ∧ Cond.methodLink own idx y ∈ lw_all ∧ Cond.instanceMethod y ∈ lw_all ∧ y.name = "<init>" ∧ parN y n ∧ mL ≤ 40
def IOKN (own : String) (idx n mi : Nat) : Prop := ∃ y cc mL host, getM MT mi = some (y, cc, mL, none, []) ∧ Cond.code y cc mL none ∈ lw_all ∧ Cond.initialized y.cls ∈ lw_all ∧ Cond.methodLinkNest own idx y host ∈ lw_tbl ∧ Cond.instanceMethod y ∈ lw_all ∧ y.name = "<init>" ∧ parN y n ∧ mL ≤ 40
/-- a method of the superclass -/
def IOKS (own : String) (idx n mi : Nat) (cs : List (Nat × Nat)) : Prop := ∃ y cc mL rt, getM MT mi = some (y, cc, mL, rt, []) ∧ GoodIn lw_all (va_wsSU own idx y (ws_ y cc mL rt)) ∧ y.name ≠ "<init>" ∧ (parseMethodDescriptor y.desc).map (fun d => d.parameters.length) = some n ∧ mL ≤ 40 ∧ cs = [(21, mi)]
def IOK (own : String) (idx n mi : Nat) (cs : List (Nat × Nat)) : Prop := IOK1 own idx n mi ∨ IOKN own idx n mi ∨ IOKS own idx n mi cs
def VOK1 (own : String) (idx n : Nat) (q : Nat × Nat) : Prop := ∃ C T N y cc mL rt, clT[q.1]? = some (C, T, N) ∧ getM MT q.2 = some (y, cc, mL, rt, []) ∧ GoodIn lw_all (wsV own idx C y (ws_ y cc mL rt)) ∧ y.cls = C ∧ parN y n ∧ mL ≤ 40
def VOKN (own : String) (idx n : Nat) (q : Nat × Nat) : Prop := ∃ C T N y cc mL rt host, clT[q.1]? = some (C, T, N) ∧ getM MT q.2 = some (y, cc, mL, rt, []) ∧ Cond.methodLinkNest own idx y host ∈ lw_tbl ∧ Cond.instanceMethod y ∈ lw_all ∧ Cond.selects C y y ∈ lw_all ∧ Cond.initialized y.cls ∈ lw_all ∧ Cond.code y cc mL rt ∈ lw_all ∧ parN y n ∧ mL ≤ 40
def VOKU (own : String) (idx n : Nat) (q : Nat × Nat) : Prop := ∃ C T N x y cc mL rt owner, clT[q.1]? = some (C, T, N) ∧ getM MT q.2 = some (y, cc, mL, rt, []) ∧ GoodIn lw_all (va_wsU own idx C owner x y (ws_ y cc mL rt)) ∧ (y = ⟨owner, x.name, x.desc⟩ ∨ Cond.declares ⟨owner, x.name, x.desc⟩ ∈ lw_tbl) ∧ parD owner x.desc n ∧ mL ≤ 40
def VOKW (own : String) (idx n : Nat) (q : Nat × Nat) : Prop := ∃ C T N y cc mL rt h0 hr, clT[q.1]? = some (C, T, N) ∧ getM MT q.2 = some (y, cc, mL, rt, h0 :: hr) ∧ GoodIn lw_all (wsV own idx C y (wsW_ y cc mL rt (h0 :: hr))) ∧ y.cls = C ∧ parN y n ∧ mL ≤ 40
/-- a private method of a superclass -/
def VOKP (own : String) (idx n : Nat) (q : Nat × Nat) : Prop := q.1 = 21 ∧ ∃ y cc mL rt, getM MT q.2 = some (y, cc, mL, rt, []) ∧ Cond.methodLink own idx y ∈ lw_all ∧ Cond.sameMethod y.cls y.cls y.name y.desc ∈ lw_all ∧ y ∈ privL ∧ Cond.instanceMethod y ∈ lw_all ∧ Cond.initialized y.cls ∈ lw_all ∧ Cond.code y cc mL rt ∈ lw_all ∧ parN y n ∧ mL ≤ 40
theorem selects_priv2 {C : String} {y y0 : MethodName} {s : State} {args : Array Value} (hy : y.cls ≠ "java/lang/invoke/MethodHandle" ∧ y.cls ≠ "java/lang/invoke/VarHandle") (hc : y.cls = y0.cls) (h0 : (Cond.selects C y0 y0).before args s = true) (hpriv : (Cond.privateMethod y).before args s = true) (hinst : (Cond.instanceMethod y).before args s = true) : (Cond.selects C y y).before args s = true := by
  obtain ⟨c2, r2, m2, q1, q2, q3, q4, kP, hkP, hkPi⟩ := Cond.selects_spec h0
  obtain ⟨mk, methM, hnamed, hmethM, -, -⟩ := Cond.instanceMethod_spec hinst
  have hfound : s.methodFound? y.cls y.name y.desc = some mk := State.methodFound?_of_named hnamed hy
  have hf0 : s.methodFound? y0.cls y0.name y0.desc = some m2 := State.methodFound?_of_named q3 (by rw [← hc]; exact hy)
  have e1 : r2 = m2 := Option.some.inj (q2.symm.trans hf0)
  have e2 : m2.cls = mk.cls := by
    have g1 := findClass_of_methodNamed q3
    have g2 := findClass_of_methodNamed hnamed
    rw [hc] at g2
    exact Option.some.inj (g1.symm.trans g2)
  have hkP : s.vm.classes[mk.cls]? = some kP := by rw [← e2]; exact hkP
  have hsel : selectMethod {} s.vm c2 mk = .method mk := selectMethod_private hmethM (Cond.privateMethod_at hpriv mk methM hnamed hmethM)
  simp only [Cond.before, Cond.holds, Cond.value, q1, hfound, hnamed, hsel, hkP]
  simp; exact hkPi
def VOK (own : String) (idx n : Nat) (q : Nat × Nat) : Prop := VOK1 own idx n q ∨ VOKN own idx n q ∨ VOKU own idx n q ∨ VOKW own idx n q ∨ VOKP own idx n q
def VOKs (own : String) (idx n : Nat) : List (Nat × Nat) → Prop
  | [] => True
  | q :: r => VOK own idx n q ∧ VOKs own idx n r
theorem VOKs_lkp {own : String} {idx n : Nat} : ∀ (r : List (Nat × Nat)) (c mi : Nat), VOKs own idx n r → lkp r c = some mi → VOK own idx n (c, mi)
  | [], _, _, _, h => by simp [lkp] at h
  | q :: r, c, mi, h, hl => by
    simp only [lkp] at hl
    split at hl
    · rename_i e
      have e : q.1 = c := Nat.eq_of_beq_eq_true e
      cases hl
      subst e
      exact h.1
    · exact VOKs_lkp r c mi h.2 hl
/-- a call by an interface: of a list -/
def FOK (own : String) (idx n : Nat) (q : Nat × Nat) : Prop := ∃ T N x y cc mL rt, clT[q.1]? = some ("java/util/ArrayList", T, N) ∧ getM MT q.2 = some (y, cc, mL, rt, []) ∧ (x, y) ∈ faceL ∧ GoodIn lw_all (va_wsF own idx "java/util/ArrayList" x y (ws_ y cc mL rt)) ∧ parN x n ∧ mL ≤ 40
def FOKs (own : String) (idx n : Nat) : List (Nat × Nat) → Prop
  | [] => True
  | q :: r => FOK own idx n q ∧ FOKs own idx n r
theorem FOKs_lkp {own : String} {idx n : Nat} : ∀ (r : List (Nat × Nat)) (c mi : Nat), FOKs own idx n r → lkp r c = some mi → FOK own idx n (c, mi)
  | [], _, _, _, h => by simp [lkp] at h
  | q :: r, c, mi, h, hl => by
    simp only [lkp] at hl
    split at hl
    · rename_i e
      have e : q.1 = c := Nat.eq_of_beq_eq_true e
      cases hl
      subst e
      exact h.1
    · exact FOKs_lkp r c mi h.2 hl
/-- what may be cast to nm: an object of a class by its number, an array of bytes or of objects -/
def CaOK (nm : String) (k : Nat) : Prop := (∃ C T N, clT[k]? = some (C, T, N) ∧ k < 1000 ∧ (C = nm ∨ Cond.castable C nm ∈ lw_tbl)) ∨ (k = 1002 ∧ nm = "[B") ∨ (k = 1007 ∧ nm = "[Ljava/lang/Object;")
def CaOKs (nm : String) : List Nat → Prop
  | [] => True
  | k :: r => CaOK nm k ∧ CaOKs nm r
theorem CaOKs_mem {nm : String} : ∀ (cs : List Nat) (k : Nat), CaOKs nm cs → cs.contains k = true → CaOK nm k
  | [], _, _, h => by simp at h
  | x :: r, k, h, hk => by
    by_cases e : k = x
    · rw [e]; exact h.1
    · refine CaOKs_mem r k h.2 ?_
      simpa [e] using hk
def GSOK (own : String) (idx : Nat) (aux : List Nat) : Prop := ∃ C n d, (C, n, d, aux) ∈ statL ∧ (Cond.fieldLink own idx C n d ∈ lw_all ∨ ∃ host, Cond.fieldLinkNest own idx C n d host ∈ lw_tbl)
def ResOK (own : String) (rt : Option FieldType) (e : Ent) : Prop := match e.1 with
  | .getfield idx => (match e.2.2.2.1 with
    | t :: f :: cs => FLgs own idx f t cs
    | _ => True)
  | .putfield idx => (match e.2.2.2.1 with
    | t :: 0 :: f :: cs => FLs own idx f t false cs
    | t :: 1 :: f :: cs => FLs own idx f t true cs
    | _ :: _ => False
    | _ => True)
  | .ldc idx => (match e.2.2.2.1 with
    | [0, 0, m] => Cond.constant own idx (nI m) ∈ lw_all
    | [0, 1, m] => Cond.constant own idx (- nI m) ∈ lw_all
    | [1, j] => ∃ tx, (own, idx, tx, j) ∈ strL
    | [2] => Cond.classLink own idx "[Ljava/lang/Object;" ∈ lw_all
    | _ => True)
  | .ldc_w idx => (match e.2.2.2.1 with
    | [0, 0, m] => Cond.constant own idx (nI m) ∈ lw_all
    | [0, 1, m] => Cond.constant own idx (- nI m) ∈ lw_all
    | [1, j] => ∃ tx, (own, idx, tx, j) ∈ strL
    | _ => True)
  | .ldc2_w idx => (match e.2.2.2.1 with
    | [0, m] => Cond.constantLong own idx (lN m) ∈ lw_all
    | [1, m] => Cond.constantLong own idx (- lN m) ∈ lw_all
    | _ => True)
  | .new idx => (match e.2.2.2.1 with
    | [c, n] => ∃ C T ty, CF c C T n ty ∧ Cond.classLink own idx C ∈ lw_all ∧ Cond.instantiable C n ∈ lw_all ∧ Cond.initialized C ∈ lw_all
    | _ => True)
  | .newarray at_ => (match e.2.2.2.1 with
    | [t] => newarray.typeOf at_ = tyOf t ∧ Cond.arrayClass (tyOf t) ∈ lw_all
    | _ => True)
  | .anewarray idx => (match e.2.2.2.1 with
    | [7] => Cond.classLink own idx "java/lang/Object" ∈ lw_all
    | [8] => Cond.classLink own idx "BreathTown$State" ∈ lw_all
    | _ => True)
  | .multianewarray idx dm => (match e.2.2.2.1 with
    | [_, _] => Cond.classLink own idx "[[I" ∈ lw_all ∧ dm = 2
    | _ => True)
  | .checkcast idx => e.2.2.2.1 = [] ∨ ∃ nm, Cond.classLink own idx nm ∈ lw_all ∧ CaOKs nm e.2.2.2.1
  | .instanceof idx => e.2.2.2.1 = [] ∨ ∃ nm, Cond.classLink own idx nm ∈ lw_all ∧ CaOKs nm e.2.2.2.1
  | .invokestatic idx => (match e.2.2.2.1 with
    | [97] => Cond.methodLink own idx arraycopyName ∈ lw_all ∧ Cond.native arraycopyName ∈ lw_all ∧ Cond.static arraycopyName ∈ lw_all ∧ Cond.initialized "java/lang/System" ∈ lw_all
    | [n, mi] => SOK own idx n mi
    | _ => True)
  | .invokespecial idx => (match e.2.2.2.1 with
    | [99] => Cond.methodLink own idx Lib.objectInit ∈ lw_all ∧ Cond.instanceMethod Lib.objectInit ∈ lw_all ∧ Cond.code Lib.objectInit ⟨#[0xb1]⟩ 1 none ∈ lw_all
    | [n, mi] => IOK own idx n mi e.2.2.2.2.1
    | _ => True)
  | .invokevirtual idx => (match e.2.2.2.1 with
    | [96, _] => Cond.methodLink own idx ⟨"java/lang/Object", "getClass", "()Ljava/lang/Class;"⟩ ∈ lw_all ∧ Cond.selects "[Ljava/lang/Object;" ⟨"java/lang/Object", "getClass", "()Ljava/lang/Class;"⟩ ⟨"java/lang/Object", "getClass", "()Ljava/lang/Class;"⟩ ∈ lw_all ∧ Cond.instanceMethod ⟨"java/lang/Object", "getClass", "()Ljava/lang/Class;"⟩ ∈ lw_all ∧ Cond.native ⟨"java/lang/Object", "getClass", "()Ljava/lang/Class;"⟩ ∈ lw_all ∧ Cond.declares ⟨"java/lang/Object", "getClass", "()Ljava/lang/Class;"⟩ ∈ lw_tbl
    | [n] => VOKs own idx n e.2.2.2.2.1
    | _ => True)
  | .invokeinterface idx _ => (match e.2.2.2.1 with
    | [n] => FOKs own idx n e.2.2.2.2.1
    | _ => True)
  | .getstatic idx => (match e.2.2.2.1 with
    | [] => True
    | aux => GSOK own idx aux)
  | .ireturn => (match e.2.2.2.1 with
    | [t] => rt = some (tyOf t)
    | _ => False)
  | .lreturn => rt = some .long
  | .areturn => (∃ n, rt = some (.object n)) ∨ ∃ t, rt = some (.array t)
  | .return_ => rt = none
  | _ => True
def EntOKH (hs : Nat → Option Nat) (own : String) (rt : Option FieldType) (cc : ByteArray) (e : Ent) : Prop := decode cc e.2.1 = .ok (e.1, e.2.2.1) ∧ ResOK own rt e ∧ e.2.2.2.2.2 = hs e.2.1
def EntOK (own : String) (rt : Option FieldType) (cc : ByteArray) (e : Ent) : Prop := EntOKH (fun _ => none) own rt cc e
def AllE (P : Ent → Prop) : List Ent → Prop
  | [] => True
  | e :: r => P e ∧ AllE P r
theorem AllE_at {P : Ent → Prop} : ∀ (tab : List Ent) (i : Nat) (e : Ent), AllE P tab → getE tab i = some e → P e
  | [], _, _, _, h => by simp [getE] at h
  | x :: r, 0, e, h, hg => by
    simp only [getE, Option.some.injEq] at hg
    subst hg
    exact h.1
  | x :: r, j+1, e, h, hg => AllE_at r j e h.2 hg
theorem AllE_c {P : Ent → Prop} {e : Ent} {r : List Ent} (h : P e) (hr : AllE P r) : AllE P (e :: r) := ⟨h, hr⟩
def TabOK (own : String) (rt : Option FieldType) (cc : ByteArray) (tab : List Ent) : Prop := AllE (EntOK own rt cc) tab ∧ tabChk tab 0 tab = true
def TabOKH (hs : Nat → Option Nat) (own : String) (rt : Option FieldType) (cc : ByteArray) (tab : List Ent) : Prop := AllE (EntOKH hs own rt cc) tab ∧ tabChk tab 0 tab = true
theorem TabOK.toH {own : String} {rt : Option FieldType} {cc : ByteArray} {tab : List Ent} (h : TabOK own rt cc tab) : TabOKH (fun _ => none) own rt cc tab := h
def cstOK (n : Int) : List Nat → Bool
  | [0, m] => decide (n = (m : Int))
  | [1, m] => decide (n = - (m : Int))
  | _ => false
def finOK (nL : Nat) (ini : Bool) (e : Ent) : Bool := match e.1 with
  | .istore_n n => Nat.blt n.val nL
  | .istore n => Nat.blt n nL
  | .astore_n n => Nat.blt n.val nL
  | .astore n => Nat.blt n nL
  | .lstore_n n => Nat.blt (n.val + 1) nL
  | .lstore n => Nat.blt (n + 1) nL
  | .bipush n => decide (-128 ≤ n) && decide (n ≤ 127) && cstOK n e.2.2.2.1
  | .sipush n => decide (-32768 ≤ n) && decide (n ≤ 32767) && cstOK n e.2.2.2.1
  | .iconst n => cstOK n e.2.2.2.1
  | .iinc _ n => cstOK n e.2.2.2.1
  | .lconst n => (match e.2.2.2.1 with
    | [m] => Nat.beq m n.val
    | _ => false)
  | .putfield _ => (match e.2.2.2.1 with
    | _ :: 1 :: _ => ini
    | _ => true)
  | _ => true
theorem getE_mem : ∀ (tab : List Ent) (i : Nat) (e : Ent), getE tab i = some e → e ∈ tab
  | [], _, _, h => by simp [getE] at h
  | x :: r, 0, e, h => by simp only [getE, Option.some.injEq] at h; subst h; exact List.mem_cons_self
  | x :: r, j+1, e, h => List.mem_cons_of_mem _ (getE_mem r j e h)
