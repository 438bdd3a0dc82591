/-! T: an abstract machine of whole numbers; a reference is its address and one, null is 0 -/
abbrev tH : Type := ((Int → Int → Int) × (Int → Int → Int)) × (Int → Int) × (Int → Nat) × Int × Int
abbrev tD : Type := (Nat → ClassId) × (Nat → Nat → Nat) × (Nat → ClassId)
abbrev tN : Type := (Nat × List Int × List Int × tH) ⊕ ((Bool × Int) × tH)
abbrev tB : Type := List Int → List Int → tH → Option tN
def tE (k : Nat) (x : Int) : Value := match k with
  | 0 => .int (Int32.ofInt x)
  | 1 => .long (Int64.ofInt x)
  | _ => if x = 0 then .null else .ref (x - 1).toNat
def tSt : List Nat → List Int → List Value
  | k :: ts, x :: S => tE k x :: tSt ts S
  | _, _ => []
def kdF (t : FieldType) : Nat := match t with
  | .long => 1
  | .object _ => 2
  | .array _ => 2
  | _ => 0
def tHn (r : tN) : tH := match r with
  | .inl x => x.2.2.2
  | .inr x => x.2
/-- the cell of a pointer -/
def tOK (D : tD) (h : tH) (a : Nat) (H : Heap) : Prop :=
  (∀ (c : Nat) (q : vw_C), h.2.2.1 (a + 1) = c → xcl c = some q → t_OB a (D.1 c) q.2.2 (D.2.1 c) H (fun k => tE (kdF (xty c k)) (h.1.1 (a + 1) k))) ∧
  (∀ (k : Nat) (ty : FieldType), h.2.2.1 (a + 1) = 1000 + k → xar k = some ty → 0 ≤ h.2.1 (a + 1) ∧ h.2.1 (a + 1) < 2147483648 ∧ H[a]? = some (arrV (D.2.2 k) (h.2.1 (a + 1)).toNat (fun j => tE (kdF ty) (h.1.2 (a + 1) j))))
def tR (D : tD) (b0 : Nat) (h : tH) (H : Heap) : Prop :=
  h.2.2.2.1 = (H.size : Int) + 1 ∧ (∀ p : Int, h.2.2.1 p < 3000 → ∃ a : Nat, p = (a : Int) + 1 ∧ a < H.size ∧ (h.2.2.1 p < 2000 → b0 ≤ a) ∧ tOK D h a H) ∧ ∀ j : Nat, h.1.1 0 (j : Int) = ((D.2.1 3000 j : Nat) : Int)
def tK (D : tD) (U : State) : Prop :=
  (∀ (c : Nat) (q : vw_C), xcl c = some q → u_Kn U q.1 q.2.1 q.2.2 (D.1 c) (D.2.1 c)) ∧ ∀ (k : Nat) (ty : FieldType), xar k = some ty → ArrOfT U (D.2.2 k) ty ∧ va_RA U (D.2.2 k) ty
theorem tK.moved {D : tD} {u U : State} (hvm : u.vm.Alike U.vm) (h : tK D u) : tK D U :=
  ⟨fun c q hq => u_Kn_moved hvm (h.1 c q hq), fun k ty hk => ⟨arrOfT_moved hvm (h.2 k ty hk).1, (h.2 k ty hk).2.moved hvm⟩⟩
/-- words that ride beside the list -/
def tXw : Cond → Bool
  | .fieldLinkNest _ _ _ _ _ _ => true
  | .methodLinkNest _ _ _ _ => true
  | .castable _ _ => true
  | .declares _ => true
  | .arrayOver _ => true
  | .privateMethod _ => true
  | _ => false
def tKw (U : State) : Prop := ∀ w ∈ lw_tbl, tXw w = true → va_Nw w U
theorem va_AOA.moved {t : FieldType} {u U : State} (hvm : u.vm.Alike U.vm) (h : (Cond.arrayOver (.array t)).before #[] u = true) : (Cond.arrayOver (.array t)).before #[] U = true := by
  obtain ⟨comp, c, k, h1, h2, h3, h4, h5⟩ := arrayOverA_spec h
  obtain ⟨k', hk', he⟩ := hvm.2.2 _ _ h3
  have hi : (U.vm.classes.findIdx? fun (x : Class) => match x.kind with | .array component _ => component == comp | _ => false) = some c := by
    rw [hvm.findIdx?_eq _ (fun _ => rfl)]
    exact h2
  have hkind : k'.kind = .array comp (.array t) := by rw [he]; exact h4
  have f1 : U.vm.findClass (FieldType.array t).toString = some comp := by rw [hvm.findClass]; exact h1
  have f2 : U.vm.findClass ("[" ++ (FieldType.array t).toString) = some c := by rw [hvm.findClass]; exact h5
  unfold Cond.before Cond.holds
  simp only [Cond.value]
  rw [f1, Option.bind_some]
  refine (congrArg (fun o : Option Nat => (o.bind (fun c => (U.vm.classes[c]?).map fun (k : Class) => match k.kind with | .array _ ty => decide (ty = FieldType.array t) && decide (U.vm.findClass ("[" ++ (FieldType.array t).toString) = some c) | _ => false) == some true)) hi).trans ?_
  simp [hk', hkind, f2]
theorem tKw.warm {s U : State} (hW : s.WarmedH U.vm) (h : tKw s) : tKw U := by
  intro w hw hx
  have h1 := h w hw hx
  cases w with
  | fieldLinkNest a b c d e f => exact va_Nw.warmF hW h1
  | methodLinkNest a b c d => exact va_Nw.warmM hW h1
  | castable a b => exact va_Nw.warmC hW h1
  | declares a => exact va_Nw.warmD hW h1
  | privateMethod x => exact va_tabs rfl (rfl : (s.setVm U.vm).vm = U.vm) (by rw [Cond.privateMethod_setVm hW.alike]; exact h1)
  | arrayOver ty =>
    cases ty with
    | object C => exact va_AO.moved hW.alike h1
    | array t => exact va_AOA.moved hW.alike h1
    | _ => exact absurd h1 (by unfold va_Nw Cond.before Cond.holds; simp [Cond.value])
  | _ => cases hx
/-- statics that hold a reference; String constants; with their ghosts -/
def zSt : List (String × String × String × Nat) := [("java/util/ArrayList", "DEFAULTCAPACITY_EMPTY_ELEMENTDATA", "[Ljava/lang/Object;", 0), ("java/lang/Integer$IntegerCache", "cache", "[Ljava/lang/Integer;", 1), ("java/lang/Throwable", "UNASSIGNED_STACK", "[Ljava/lang/StackTraceElement;", 2), ("java/lang/Throwable", "SUPPRESSED_SENTINEL", "Ljava/util/List;", 3), ("jdk/internal/util/Preconditions", "SIOOBE_FORMATTER", "Ljava/util/function/BiFunction;", 5)]
def zSr : List (String × Nat × String × Nat) := [("LandMap$Algebra", 130, "min", 10), ("LandMap$Algebra", 136, "max", 11), ("LandMap$Algebra", 138, "or", 12), ("LandMap$Algebra", 140, "abs", 13), ("LandMap$Algebra", 142, "blank", 14), ("LandMap$Algebra", 144, "sum", 15), ("LandMap$Algebra", 145, "top", 16), ("LandMap$Algebra", 147, "low", 17), ("LandMap$Algebra", 149, "at", 18), ("LandMapModel$Algebra", 95, " min max or abs blank sum top low at ", 19)]
/-- a static's place, in any state with the same tables and the same old cells -/
def zL (C n d : String) (b0 : Nat) (U : State) (H : Heap) : Prop := ∀ (A : Array Value) (S : State), S.vm = U.vm → (∀ q : Nat, q < b0 → q < H.size → S.heap[q]? = H[q]?) → (Cond.laysStatic C n d).before A S = true
theorem zL.to {C n d : String} {b0 : Nat} {s U : State} {H H' : Heap} (ha : s.vm.Alike U.vm) (hq : ∀ a : Nat, a < H.size → ¬ b0 ≤ a → H'[a]? = H[a]?) (h : zL C n d b0 s H) : zL C n d b0 U H' := by
  intro A S hS hH
  have h1 : (Cond.laysStatic C n d).before A (S.setVm s.vm) = true := h A _ rfl fun q hq1 hq2 => by
    have e1 := hq q hq2 (by omega)
    have e2 : q < H'.size := by
      have : H'[q]? = some H[q] := by rw [e1, Array.getElem?_eq_getElem hq2]
      exact (Array.getElem?_eq_some_iff.mp this).1
    rw [← e1]
    exact hH q hq1 e2
  have h2 := Cond.laysStatic_setVm (s := S.setVm s.vm) (vm' := U.vm) ha h1
  have h3 : (S.setVm s.vm).setVm U.vm = S := by rw [← hS]; rfl
  rw [h3] at h2
  exact h2
/-- what is old and stays: statics, String constants, the class object of Object[], the cache of Integers -/
def tZs (D : tD) (b0 : Nat) (U : State) (H : Heap) : Prop :=
  (∀ q ∈ zSt, va_Z q.1 q.2.1 q.2.2.1 (tE 2 ((D.2.1 3000 q.2.2.2 : Nat) : Int)) (fun x => b0 ≤ x) U H) ∧
  (va_Z "java/lang/String" "COMPACT_STRINGS" "Z" (.int 1) (fun x => b0 ≤ x) U H ∧ va_Z "java/lang/Integer$IntegerCache" "high" "I" (.int 127) (fun x => b0 ≤ x) U H ∧ zL "java/lang/Throwable" "UNASSIGNED_STACK" "[Ljava/lang/StackTraceElement;" b0 U H ∧ zL "java/lang/Throwable" "SUPPRESSED_SENTINEL" "Ljava/util/List;" b0 U H) ∧
  (∀ q ∈ zSr, D.2.1 3000 q.2.2.2 ≠ 0 ∧ vk_R q.1 q.2.1 q.2.2.1 (D.2.1 3000 q.2.2.2 - 1) U) ∧
  (D.2.1 3000 4 ≠ 0 ∧ va_Mi "[Ljava/lang/Object;" (D.2.1 3000 4 - 1) U ∧ va_Dc U) ∧
  (D.2.1 3000 1 ≠ 0 ∧ va_T (.object "java/lang/Integer") (D.2.1 3000 1 - 1) 256 (fun j => tE 2 ((D.2.1 3000 (100 + j) : Nat) : Int)) (fun x => b0 ≤ x) U H)
theorem tZs.to {D : tD} {b0 : Nat} {s U : State} {H H' : Heap} (ha : s.vm.Alike U.vm) (hs : ∀ (own tx : String) (k a : Nat), vk_R own k tx a s → vk_R own k tx a U) (hq : ∀ a : Nat, a < H.size → ¬ b0 ≤ a → H'[a]? = H[a]?) (h : tZs D b0 s H) : tZs D b0 U H' :=
  ⟨fun q hm => (va_Z.moved ha (h.1 q hm)).kept hq, ⟨(va_Z.moved ha h.2.1.1).kept hq, (va_Z.moved ha h.2.1.2.1).kept hq, h.2.1.2.2.1.to ha hq, h.2.1.2.2.2.to ha hq⟩, fun q hm => ⟨(h.2.2.1 q hm).1, hs _ _ _ _ (h.2.2.1 q hm).2⟩, ⟨h.2.2.2.1.1, va_Mi.moved ha h.2.2.2.1.2.1, va_Dc.moved ha h.2.2.2.1.2.2⟩, h.2.2.2.2.1, (va_T.moved ha h.2.2.2.2.2).kept hq⟩
theorem tZs.go {D : tD} {b0 : Nat} {s U : State} {H H' : Heap} (hW : s.WarmedH U.vm) (hq : ∀ a : Nat, a < H.size → ¬ b0 ≤ a → H'[a]? = H[a]?) (h : tZs D b0 s H) : tZs D b0 U H' :=
  tZs.to hW.alike (fun _ _ _ _ z => vk_R.warm hW z) hq h
theorem tZs.same {D : tD} {b0 : Nat} {s U : State} {H : Heap} (hv : s.vm = U.vm) (h : tZs D b0 s H) : tZs D b0 U H :=
  tZs.to (by rw [hv]; exact Vm.Alike.refl _) (fun _ _ _ _ z => vk_R.same hv.symm z) (fun _ _ _ => rfl) h
/-- locals -/
def tL (nL : Nat) (lt : List (Nat × Nat)) (L : List Int) (ls : Array Slot) : Prop := lv_has ls nL (lt.map fun q => (q.1, tE q.2 (L.getD q.1 0)))
/-- a method's constants: bytes, locals, class, types at the heads of blocks, numbers, base, frames, words, answer -/
abbrev tM : Type := ByteArray × Nat × String × (Nat → List (Nat × Nat) × List Nat) × tD × Nat × Nat × Nat × Option FieldType × Bool × List (Nat × Nat × Nat × Nat)
abbrev tM.cc (E : tM) : ByteArray := E.1
abbrev tM.nL (E : tM) : Nat := E.2.1
abbrev tM.own (E : tM) : String := E.2.2.1
abbrev tM.te (E : tM) : Nat → List (Nat × Nat) × List Nat := E.2.2.2.1
abbrev tM.D (E : tM) : tD := E.2.2.2.2.1
abbrev tM.b0 (E : tM) : Nat := E.2.2.2.2.2.1
abbrev tM.fr (E : tM) : Nat := E.2.2.2.2.2.2.1
abbrev tM.lo (E : tM) : Nat := E.2.2.2.2.2.2.2.1
abbrev tM.rt (E : tM) : Option FieldType := E.2.2.2.2.2.2.2.2.1
abbrev tM.ini (E : tM) : Bool := E.2.2.2.2.2.2.2.2.2.1
abbrev tM.hh (E : tM) : List (Nat × Nat × Nat × Nat) := E.2.2.2.2.2.2.2.2.2.2
abbrev tCx : Type := Program × Launch × Env × Room × State × MethodId × Array Value × List Frame × Method × Code
theorem tHh {c : Code} {hh : List (Nat × Nat × Nat × Nat)} {pc : Nat} (he : c.exceptionTable.toList.map (fun h => (h.startPc, h.endPc, h.handlerPc, h.catchType)) = hh) (ha : hh.all (fun q => !(decide (q.1 ≤ pc) && decide (pc < q.2.1))) = true) (x : ExceptionTableEntry) (hx : x ∈ c.exceptionTable.toList) : covers x pc = false := by
  have hm : (x.startPc, x.endPc, x.handlerPc, x.catchType) ∈ hh := by
    rw [← he]
    exact List.mem_map_of_mem hx
  have := List.all_eq_true.mp ha _ hm
  cases hv : covers x pc with
  | false => rfl
  | true =>
    have h2 : (!covers x pc) = true := this
    rw [hv] at h2
    cases h2
/-- a place in a walk -/
def tC (E : tM) (l : Launch) (p : Program) (R : Room) (s : State) (m : MethodId) (args : Array Value) (meth : Method) (c : Code) : Prop :=
  p.tables.exec = Jvm.exec ∧ c.code = tM.cc E ∧ c.maxLocals = tM.nL E ∧ s.vm.findClass (tM.own E) = some m.cls ∧ (∀ w ∈ lw_all, w.before args s = true) ∧ tK (tM.D E) s ∧ tM.b0 E ≤ s.heap.size ∧ tM.fr E ≤ R.frames ∧ tM.lo E ≤ R.locals ∧ meth.locks = false ∧ meth.sig.returnType = tM.rt E ∧ (tM.ini E = true → meth.name = "<init>") ∧ c.exceptionTable.toList.map (fun h => (h.startPc, h.endPc, h.handlerPc, h.catchType)) = tM.hh E ∧ tKw s ∧ tZs (tM.D E) (tM.b0 E) s s.heap ∧ l.stackTraces = false
def tO (rt : Option FieldType) (o : Bool × Int) : Outcome := match o.1 with
  | false => .returned (rt.map fun t => tE (kdF t) o.2)
  | true => .threw (o.2 - 1).toNat
def tQ (D : tD) (b0 : Nat) (rt : Option FieldType) (below : List Frame) (s : State) (n0 u0 : Int) (fin : (Bool × Int) × tH) : State → Prop := fun t =>
  t.status = .running ∧ Ended t below (tO rt fin.1) ∧ tR D b0 fin.2 t.heap ∧ s.WarmedH t.vm ∧ (∀ q : Nat, q < b0 → t.heap[q]? = s.heap[q]?) ∧ ∃ Ls : List Loc, s.sameButNew ({ t with vm := s.vm } : State) Ls (fin.2.2.2.2.1 - n0).toNat (fin.2.2.2.2.2 - u0).toNat ∧ ∀ q ∈ Ls, b0 ≤ q.base
def tW (E : tM) (p : Program) (l : Launch) (e : Env) (R : Room) (s : State) (m : MethodId) (args : Array Value) (below : List Frame) (meth : Method) (c : Code) (n0 u0 : Int) (fin : (Bool × Int) × tH) (pc : Nat) (lt : List (Nat × Nat)) (ts : List Nat) (L S : List Int) (h : tH) : Prop :=
  ∀ (ls : Array Slot) (H : Heap) (locs : List Loc), tL (tM.nL E) lt L ls → tR (tM.D E) (tM.b0 E) h H → va_S (fun q => tM.b0 E ≤ q) s.heap H locs →
    W p l e R s m args below meth c H locs (h.2.2.2.1 - n0).toNat (h.2.2.2.2 - u0).toNat (tQ (tM.D E) (tM.b0 E) (tM.rt E) below s n0 u0 fin) (F0 m pc ls (tSt ts S))
/-- a block at pc, with locals and operands of these kinds, is what the machine does -/
def tSd (E : tM) (pc : Nat) (lt : List (Nat × Nat)) (ts : List Nat) (B : tB) : Prop :=
  ∀ (L S : List Int) (h : tH) (r : tN), B L S h = some r → S.length = ts.length → L.length = tM.nL E →
    (h.2.2.2.1 ≤ (tHn r).2.2.2.1 ∧ h.2.2.2.2 ≤ (tHn r).2.2.2.2 ∧ ∀ (pc' : Nat) (L' S' : List Int) (h' : tH), r = .inl (pc', L', S', h') → L'.length = tM.nL E ∧ S'.length = (tM.te E pc').2.length) ∧
    ∀ (p : Program) (l : Launch) (e : Env) (R : Room) (s : State) (m : MethodId) (args : Array Value) (below : List Frame) (meth : Method) (c : Code) (n0 u0 : Int) (fin : (Bool × Int) × tH),
      tC E l p R s m args meth c → n0 ≤ h.2.2.2.1 → u0 ≤ h.2.2.2.2 → (tHn r).2.2.2.1 ≤ fin.2.2.2.2.1 → (tHn r).2.2.2.2 ≤ fin.2.2.2.2.2 → R.cells = (fin.2.2.2.2.1 - n0).toNat → R.slots = (fin.2.2.2.2.2 - u0).toNat →
      (∀ x, r = .inr x → fin = x) →
      (∀ (pc' : Nat) (L' S' : List Int) (h' : tH), r = .inl (pc', L', S', h') → L'.length = tM.nL E → S'.length = (tM.te E pc').2.length → tW E p l e R s m args below meth c n0 u0 fin pc' (tM.te E pc').1 (tM.te E pc').2 L' S' h') →
      tW E p l e R s m args below meth c n0 u0 fin pc lt ts L S h
theorem tSd.step {E : tM} {pc pc1 : Nat} {lt lt1 : List (Nat × Nat)} {ts ts1 : List Nat} {B K : tB} (hK : tSd E pc1 lt1 ts1 K)
    (hf : ∀ (L S : List Int) (h : tH) (r : tN), B L S h = some r → S.length = ts.length → L.length = tM.nL E →
      ∃ (L1 S1 : List Int), K L1 S1 h = some r ∧ S1.length = ts1.length ∧ L1.length = tM.nL E ∧
        ∀ (p : Program) (l : Launch) (e : Env) (R : Room) (s : State) (m : MethodId) (args : Array Value) (below : List Frame) (meth : Method) (c : Code) (n0 u0 : Int) (fin : (Bool × Int) × tH), tC E l p R s m args meth c →
          tW E p l e R s m args below meth c n0 u0 fin pc1 lt1 ts1 L1 S1 h → tW E p l e R s m args below meth c n0 u0 fin pc lt ts L S h) : tSd E pc lt ts B := by
  intro L S h r hB hS hL
  obtain ⟨L1, S1, k1, k2, k3, k4⟩ := hf L S h r hB hS hL
  obtain ⟨m1, w1⟩ := hK L1 S1 h r k1 k2 k3
  refine ⟨m1, fun p l e R s m args below meth c n0 u0 fin hC a1 a2 a3 a4 a5 a6 a7 a8 => ?_⟩
  exact k4 p l e R s m args below meth c n0 u0 fin hC (w1 p l e R s m args below meth c n0 u0 fin hC a1 a2 a3 a4 a5 a6 a7 a8)
def tIn : List (Nat × Nat) → Nat → Nat → Bool
  | [], _, _ => false
  | q :: l, k, d => (q.1.beq k && q.2.beq d) || tIn l k d
theorem tIn_mem : ∀ {lt : List (Nat × Nat)} {k d : Nat}, tIn lt k d = true → (k, d) ∈ lt
  | [], k, d, h => by simp [tIn] at h
  | q :: l, k, d, h => by
    simp only [tIn, Bool.or_eq_true, Bool.and_eq_true] at h
    rcases h with ⟨h1, h2⟩ | h
    · have e1 := Nat.eq_of_beq_eq_true h1
      have e2 := Nat.eq_of_beq_eq_true h2
      rw [← e1, ← e2]
      exact List.mem_cons_self
    · exact List.mem_cons_of_mem _ (tIn_mem h)
theorem tL.at {nL : Nat} {lt : List (Nat × Nat)} {L : List Int} {ls : Array Slot} (h : tL nL lt L ls) {k kd : Nat} (hk : tIn lt k kd = true) : ls[k]? = some (.val (tE kd (L.getD k 0))) := by
  have := h.2.2 (k, tE kd (L.getD k 0)) (List.mem_map.mpr ⟨(k, kd), tIn_mem hk, rfl⟩)
  exact this
theorem tSt_cons (k : Nat) (ts : List Nat) (x : Int) (S : List Int) : tSt (k :: ts) (x :: S) = tE k x :: tSt ts S := rfl
theorem tE_0 (x : Int) : tE 0 x = .int (Int32.ofInt x) := rfl
theorem tE_1 (x : Int) : tE 1 x = .long (Int64.ofInt x) := rfl
theorem tE_null : tE 2 0 = .null := rfl
theorem tE_ref {x : Int} (h : x ≠ 0) : tE 2 x = .ref (x - 1).toNat := by
  show (if x = 0 then Value.null else .ref (x - 1).toNat) = _
  rw [if_neg h]
theorem tE_ptr (a : Nat) : tE 2 ((a : Int) + 1) = .ref a := by
  rw [tE_ref (by omega), show ((a : Int) + 1 - 1).toNat = a by omega]
/-! constants and locals -/
def o_push (x : Int) (K : tB) : tB := fun L S h => K L (x :: S) h
def o_load (k : Nat) (K : tB) : tB := fun L S h => K L (L.getD k 0 :: S) h
def o_store (k : Nat) (K : tB) : tB := fun L S h => match S with
  | x :: S' => K (L.set k x) S' h
  | [] => none
def o_iinc (k : Nat) (n : Int) (K : tB) : tB := fun L S h => K (L.set k (L.getD k 0 + n)) S h
section TS
variable {E : tM} {pc : Nat} {lt : List (Nat × Nat)} {ts : List Nat} {K : tB}
theorem s_iconst {n : Int} (hd : decode (tM.cc E) pc = .ok (.iconst n, 1)) (hK : tSd E (pc + 1) lt (0 :: ts) K) : tSd E pc lt ts (o_push n K) :=
  hK.step fun L S h r hB hS hL => ⟨L, n :: S, hB, by simp [hS], hL, fun p l e R s m args below meth c n0 u0 fin hC hW ls H locs h1 h2 h3 => lv_iconst hC.1 hC.2.1 hd rfl (hW ls H locs h1 h2 h3)⟩
theorem s_bipush {n x : Int} (hd : decode (tM.cc E) pc = .ok (.bipush n, 2)) (hx : (Int8.ofInt n).toInt32 = Int32.ofInt x) (hK : tSd E (pc + 2) lt (0 :: ts) K) : tSd E pc lt ts (o_push x K) :=
  hK.step fun L S h r hB hS hL => ⟨L, x :: S, hB, by simp [hS], hL, fun p l e R s m args below meth c n0 u0 fin hC hW ls H locs h1 h2 h3 => lv_bipush hC.1 hC.2.1 hd hx (hW ls H locs h1 h2 h3)⟩
theorem s_sipush {n x : Int} (hd : decode (tM.cc E) pc = .ok (.sipush n, 3)) (hx : (Int16.ofInt n).toInt32 = Int32.ofInt x) (hK : tSd E (pc + 3) lt (0 :: ts) K) : tSd E pc lt ts (o_push x K) :=
  hK.step fun L S h r hB hS hL => ⟨L, x :: S, hB, by simp [hS], hL, fun p l e R s m args below meth c n0 u0 fin hC hW ls H locs h1 h2 h3 => lv_sipush hC.1 hC.2.1 hd hx (hW ls H locs h1 h2 h3)⟩
theorem s_lconst {n : Fin 2} {x : Int} (hd : decode (tM.cc E) pc = .ok (.lconst n, 1)) (hx : Int64.ofNat (n : Nat) = Int64.ofInt x) (hK : tSd E (pc + 1) lt (1 :: ts) K) : tSd E pc lt ts (o_push x K) :=
  hK.step fun L S h r hB hS hL => ⟨L, x :: S, hB, by simp [hS], hL, fun p l e R s m args below meth c n0 u0 fin hC hW ls H locs h1 h2 h3 => lv_lconst hC.1 hC.2.1 hd hx (hW ls H locs h1 h2 h3)⟩
theorem s_ldc {i : Nat} {v : Int32} {x : Int} (hd : decode (tM.cc E) pc = .ok (.ldc i, 2)) (hq : Cond.constant (tM.own E) i v ∈ lw_all) (hx : v = Int32.ofInt x) (hK : tSd E (pc + 2) lt (0 :: ts) K) : tSd E pc lt ts (o_push x K) :=
  hK.step fun L S h r hB hS hL => ⟨L, x :: S, hB, by simp [hS], hL, fun p l e R s m args below meth c n0 u0 fin hC hW ls H locs h1 h2 h3 => lv_ldc hC.1 hC.2.1 hC.2.2.2.1 (hC.2.2.2.2.1 _ hq) hd (by subst hx; exact hW ls H locs h1 h2 h3)⟩
theorem s_ldc2 {i : Nat} {v : Int64} {x : Int} (hd : decode (tM.cc E) pc = .ok (.ldc2_w i, 3)) (hq : Cond.constantLong (tM.own E) i v ∈ lw_all) (hx : v = Int64.ofInt x) (hK : tSd E (pc + 3) lt (1 :: ts) K) : tSd E pc lt ts (o_push x K) :=
  hK.step fun L S h r hB hS hL => ⟨L, x :: S, hB, by simp [hS], hL, fun p l e R s m args below meth c n0 u0 fin hC hW ls H locs h1 h2 h3 => lv_ldc2 hC.1 hC.2.1 hC.2.2.2.1 (hC.2.2.2.2.1 _ hq) hd (by subst hx; exact hW ls H locs h1 h2 h3)⟩
theorem s_null (hd : decode (tM.cc E) pc = .ok (.aconst_null, 1)) (hK : tSd E (pc + 1) lt (2 :: ts) K) : tSd E pc lt ts (o_push 0 K) :=
  hK.step fun L S h r hB hS hL => ⟨L, 0 :: S, hB, by simp [hS], hL, fun p l e R s m args below meth c n0 u0 fin hC hW ls H locs h1 h2 h3 => lv_null hC.1 hC.2.1 hd (hW ls H locs h1 h2 h3)⟩
theorem s_iload_n {k : Fin 4} {i : Nat} (hd : decode (tM.cc E) pc = .ok (.iload_n k, 1)) (hi : (k : Nat) = i) (hm : tIn lt i 0 = true) (hK : tSd E (pc + 1) lt (0 :: ts) K) : tSd E pc lt ts (o_load i K) :=
  hK.step fun L S h r hB hS hL => ⟨L, _, hB, by simp [hS], hL, fun p l e R s m args below meth c n0 u0 fin hC hW ls H locs h1 h2 h3 => lv_iload_n hC.1 hC.2.1 hd hi (h1.at hm) (hW ls H locs h1 h2 h3)⟩
theorem s_iload {i : Nat} (hd : decode (tM.cc E) pc = .ok (.iload i, 2)) (hm : tIn lt i 0 = true) (hK : tSd E (pc + 2) lt (0 :: ts) K) : tSd E pc lt ts (o_load i K) :=
  hK.step fun L S h r hB hS hL => ⟨L, _, hB, by simp [hS], hL, fun p l e R s m args below meth c n0 u0 fin hC hW ls H locs h1 h2 h3 => lv_iload hC.1 hC.2.1 hd (h1.at hm) (hW ls H locs h1 h2 h3)⟩
theorem s_lload_n {k : Fin 4} {i : Nat} (hd : decode (tM.cc E) pc = .ok (.lload_n k, 1)) (hi : (k : Nat) = i) (hm : tIn lt i 1 = true) (hK : tSd E (pc + 1) lt (1 :: ts) K) : tSd E pc lt ts (o_load i K) :=
  hK.step fun L S h r hB hS hL => ⟨L, _, hB, by simp [hS], hL, fun p l e R s m args below meth c n0 u0 fin hC hW ls H locs h1 h2 h3 => lv_lload_n hC.1 hC.2.1 hd hi (h1.at hm) (hW ls H locs h1 h2 h3)⟩
theorem s_lload {i : Nat} (hd : decode (tM.cc E) pc = .ok (.lload i, 2)) (hm : tIn lt i 1 = true) (hK : tSd E (pc + 2) lt (1 :: ts) K) : tSd E pc lt ts (o_load i K) :=
  hK.step fun L S h r hB hS hL => ⟨L, _, hB, by simp [hS], hL, fun p l e R s m args below meth c n0 u0 fin hC hW ls H locs h1 h2 h3 => lv_lload hC.1 hC.2.1 hd (h1.at hm) (hW ls H locs h1 h2 h3)⟩
theorem s_aload_n {k : Fin 4} {i : Nat} (hd : decode (tM.cc E) pc = .ok (.aload_n k, 1)) (hi : (k : Nat) = i) (hm : tIn lt i 2 = true) (hK : tSd E (pc + 1) lt (2 :: ts) K) : tSd E pc lt ts (o_load i K) :=
  hK.step fun L S h r hB hS hL => ⟨L, _, hB, by simp [hS], hL, fun p l e R s m args below meth c n0 u0 fin hC hW ls H locs h1 h2 h3 => by
    have ha := h1.at hm
    have hw := hW ls H locs h1 h2 h3
    rw [tSt_cons] at hw
    by_cases hz : L.getD i 0 = 0
    · rw [hz, tE_null] at ha hw
      exact lv_aload_nN hC.1 hC.2.1 hd hi ha hw
    · rw [tE_ref hz] at ha hw
      exact lv_aload_n hC.1 hC.2.1 hd hi ha hw⟩
theorem s_aload {i : Nat} (hd : decode (tM.cc E) pc = .ok (.aload i, 2)) (hm : tIn lt i 2 = true) (hK : tSd E (pc + 2) lt (2 :: ts) K) : tSd E pc lt ts (o_load i K) :=
  hK.step fun L S h r hB hS hL => ⟨L, _, hB, by simp [hS], hL, fun p l e R s m args below meth c n0 u0 fin hC hW ls H locs h1 h2 h3 => by
    have ha := h1.at hm
    have hw := hW ls H locs h1 h2 h3
    rw [tSt_cons] at hw
    by_cases hz : L.getD i 0 = 0
    · rw [hz, tE_null] at ha hw
      exact lv_aloadN hC.1 hC.2.1 hd ha hw
    · rw [tE_ref hz] at ha hw
      exact lv_aload hC.1 hC.2.1 hd ha hw⟩

/-! stores into locals -/
def tSet1 (lt : List (Nat × Nat)) (k d : Nat) : List (Nat × Nat) := (k, d) :: lt.filter (fun q => !(q.1 == k) && !(q.1 + 1 == k && q.2 == 1))
def tSet2 (lt : List (Nat × Nat)) (k : Nat) : List (Nat × Nat) := (k, 1) :: lt.filter (fun q => !(q.1 == k) && (!(q.1 == k + 1) && !(q.1 + 1 == k && q.2 == 1)))
theorem tE_cat (d : Nat) (x : Int) : (tE d x).category = if d = 1 then 2 else 1 := by
  match d with
  | 0 => rfl
  | 1 => rfl
  | d + 2 =>
    show (if x = 0 then Value.null else .ref (x - 1).toNat).category = _
    split <;> simp [Value.category]
theorem tE_cat2 (d : Nat) (x : Int) : ((tE d x).category == 2) = (d == 1) := by
  rw [tE_cat]
  by_cases h : d = 1 <;> simp [h]
theorem tSet1_eq (lt : List (Nat × Nat)) (k d : Nat) (L : List Int) (x : Int) (hk : k < L.length) :
    (k, tE d x) :: (lt.map fun q => (q.1, tE q.2 (L.getD q.1 0))).filter (fun q => !(q.1 == k) && !(q.1 + 1 == k && q.2.category == 2)) = (tSet1 lt k d).map fun q => (q.1, tE q.2 ((L.set k x).getD q.1 0)) := by
  unfold tSet1
  rw [List.map_cons]
  congr 1
  · simp [List.getD_eq_getElem?_getD, hk]
  · rw [List.filter_map]
    have h1 : ((fun q : Nat × Value => !(q.1 == k) && !(q.1 + 1 == k && q.2.category == 2)) ∘ fun q : Nat × Nat => (q.1, tE q.2 (L.getD q.1 0))) = (fun q => !(q.1 == k) && !(q.1 + 1 == k && q.2 == 1)) := by
      funext q
      simp only [Function.comp, tE_cat2]
    rw [h1]
    apply List.map_congr_left
    intro q hq
    have h2 := (List.mem_filter.mp hq).2
    simp only [Bool.and_eq_true, Bool.not_eq_true', beq_eq_false_iff_ne] at h2
    have h3 : (L.set k x).getD q.1 0 = L.getD q.1 0 := by
      simp [List.getD_eq_getElem?_getD, List.getElem?_set, Ne.symm h2.1]
    rw [h3]
theorem tSet2_eq (lt : List (Nat × Nat)) (k : Nat) (L : List Int) (x : Int) (hk : k < L.length) :
    (k, tE 1 x) :: (lt.map fun q => (q.1, tE q.2 (L.getD q.1 0))).filter (fun q => !(q.1 == k) && (!(q.1 == k + 1) && !(q.1 + 1 == k && q.2.category == 2))) = (tSet2 lt k).map fun q => (q.1, tE q.2 ((L.set k x).getD q.1 0)) := by
  unfold tSet2
  rw [List.map_cons]
  congr 1
  · simp [List.getD_eq_getElem?_getD, hk]
  · rw [List.filter_map]
    have h1 : ((fun q : Nat × Value => !(q.1 == k) && (!(q.1 == k + 1) && !(q.1 + 1 == k && q.2.category == 2))) ∘ fun q : Nat × Nat => (q.1, tE q.2 (L.getD q.1 0))) = (fun q => !(q.1 == k) && (!(q.1 == k + 1) && !(q.1 + 1 == k && q.2 == 1))) := by
      funext q
      simp only [Function.comp, tE_cat2]
    rw [h1]
    apply List.map_congr_left
    intro q hq
    have h2 := (List.mem_filter.mp hq).2
    simp only [Bool.and_eq_true, Bool.not_eq_true', beq_eq_false_iff_ne] at h2
    have h3 : (L.set k x).getD q.1 0 = L.getD q.1 0 := by
      simp [List.getD_eq_getElem?_getD, List.getElem?_set, Ne.symm h2.1]
    rw [h3]
theorem o_store_some {k : Nat} {K : tB} {L S : List Int} {h : tH} {r : tN} (hB : o_store k K L S h = some r) : ∃ x S', S = x :: S' ∧ K (L.set k x) S' h = some r := by
  cases S with
  | nil => cases hB
  | cons x S' => exact ⟨x, S', rfl, hB⟩
theorem s_istore_n {k : Fin 4} {i : Nat} (hd : decode (tM.cc E) pc = .ok (.istore_n k, 1)) (hi : (k : Nat) = i) (hn : i < tM.nL E) (hK : tSd E (pc + 1) (tSet1 lt i 0) ts K) : tSd E pc lt (0 :: ts) (o_store i K) :=
  hK.step fun L S h r hB hS hL => by
    obtain ⟨x, S', rfl, hB⟩ := o_store_some hB
    refine ⟨_, S', hB, by simpa using hS, by simp [hL], fun p l e R s m args below meth c n0 u0 fin hC hW ls H locs h1 h2 h3 => ?_⟩
    exact lv_istore_n hC.1 hC.2.1 hd hi h1 hn (tSet1_eq lt i 0 L x (by omega)) (fun ls' hl => hW ls' H locs hl h2 h3)
theorem s_istore {i : Nat} (hd : decode (tM.cc E) pc = .ok (.istore i, 2)) (hn : i < tM.nL E) (hK : tSd E (pc + 2) (tSet1 lt i 0) ts K) : tSd E pc lt (0 :: ts) (o_store i K) :=
  hK.step fun L S h r hB hS hL => by
    obtain ⟨x, S', rfl, hB⟩ := o_store_some hB
    refine ⟨_, S', hB, by simpa using hS, by simp [hL], fun p l e R s m args below meth c n0 u0 fin hC hW ls H locs h1 h2 h3 => ?_⟩
    exact lv_istore hC.1 hC.2.1 hd h1 hn (tSet1_eq lt i 0 L x (by omega)) (fun ls' hl => hW ls' H locs hl h2 h3)
theorem s_lstore_n {k : Fin 4} {i : Nat} (hd : decode (tM.cc E) pc = .ok (.lstore_n k, 1)) (hi : (k : Nat) = i) (hn : i + 1 < tM.nL E) (hK : tSd E (pc + 1) (tSet2 lt i) ts K) : tSd E pc lt (1 :: ts) (o_store i K) :=
  hK.step fun L S h r hB hS hL => by
    obtain ⟨x, S', rfl, hB⟩ := o_store_some hB
    refine ⟨_, S', hB, by simpa using hS, by simp [hL], fun p l e R s m args below meth c n0 u0 fin hC hW ls H locs h1 h2 h3 => ?_⟩
    exact lv_lstore_n hC.1 hC.2.1 hd hi h1 hn (tSet2_eq lt i L x (by omega)) (fun ls' hl => hW ls' H locs hl h2 h3)
theorem s_lstore {i : Nat} (hd : decode (tM.cc E) pc = .ok (.lstore i, 2)) (hn : i + 1 < tM.nL E) (hK : tSd E (pc + 2) (tSet2 lt i) ts K) : tSd E pc lt (1 :: ts) (o_store i K) :=
  hK.step fun L S h r hB hS hL => by
    obtain ⟨x, S', rfl, hB⟩ := o_store_some hB
    refine ⟨_, S', hB, by simpa using hS, by simp [hL], fun p l e R s m args below meth c n0 u0 fin hC hW ls H locs h1 h2 h3 => ?_⟩
    exact lv_lstore hC.1 hC.2.1 hd h1 hn (tSet2_eq lt i L x (by omega)) (fun ls' hl => hW ls' H locs hl h2 h3)
theorem s_astore_n {k : Fin 4} {i : Nat} (hd : decode (tM.cc E) pc = .ok (.astore_n k, 1)) (hi : (k : Nat) = i) (hn : i < tM.nL E) (hK : tSd E (pc + 1) (tSet1 lt i 2) ts K) : tSd E pc lt (2 :: ts) (o_store i K) :=
  hK.step fun L S h r hB hS hL => by
    obtain ⟨x, S', rfl, hB⟩ := o_store_some hB
    refine ⟨_, S', hB, by simpa using hS, by simp [hL], fun p l e R s m args below meth c n0 u0 fin hC hW ls H locs h1 h2 h3 => ?_⟩
    have he := tSet1_eq lt i 2 L x (by omega)
    rw [tSt_cons]
    by_cases hz : x = 0
    · subst hz
      exact lv_astore_nN hC.1 hC.2.1 hd hi h1 hn he (fun ls' hl => hW ls' H locs hl h2 h3)
    · rw [tE_ref hz] at he ⊢
      exact lv_astore_n hC.1 hC.2.1 hd hi h1 hn he (fun ls' hl => hW ls' H locs hl h2 h3)
theorem s_astore {i : Nat} (hd : decode (tM.cc E) pc = .ok (.astore i, 2)) (hn : i < tM.nL E) (hK : tSd E (pc + 2) (tSet1 lt i 2) ts K) : tSd E pc lt (2 :: ts) (o_store i K) :=
  hK.step fun L S h r hB hS hL => by
    obtain ⟨x, S', rfl, hB⟩ := o_store_some hB
    refine ⟨_, S', hB, by simpa using hS, by simp [hL], fun p l e R s m args below meth c n0 u0 fin hC hW ls H locs h1 h2 h3 => ?_⟩
    have he := tSet1_eq lt i 2 L x (by omega)
    rw [tSt_cons]
    by_cases hz : x = 0
    · subst hz
      exact lv_astoreN hC.1 hC.2.1 hd h1 hn he (fun ls' hl => hW ls' H locs hl h2 h3)
    · rw [tE_ref hz] at he ⊢
      exact lv_astore hC.1 hC.2.1 hd h1 hn he (fun ls' hl => hW ls' H locs hl h2 h3)
theorem tIn_get {lt : List (Nat × Nat)} {k d : Nat} (h : tIn lt k d = true) : ∃ j : Nat, lt[j]? = some (k, d) := List.getElem?_of_mem (tIn_mem h)
theorem s_iinc {i : Nat} {n : Int} (hd : decode (tM.cc E) pc = .ok (.iinc i n, 3)) (hm : tIn lt i 0 = true) (hn : i < tM.nL E) (hK : tSd E (pc + 3) (tSet1 lt i 0) ts K) : tSd E pc lt ts (o_iinc i n K) :=
  hK.step fun L S h r hB hS hL => by
    refine ⟨_, S, hB, hS, by simp [hL], fun p l e R s m args below meth c n0 u0 fin hC hW ls H locs h1 h2 h3 => ?_⟩
    obtain ⟨j, hj⟩ := tIn_get hm
    exact lv_iinc (k := j) hC.1 hC.2.1 hd h1 (by rw [List.getElem?_map, hj]; rfl) (by rw [← Int32.ofInt_add]) hn (tSet1_eq lt i 0 L _ (by omega)) (fun ls' hl => hW ls' H locs hl h2 h3)
end TS
