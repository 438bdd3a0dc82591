/-! T: calls -/
section TGO
variable {p : Program} {l : Launch} {e : Env} {R : Room} {s : State} {m : MethodId} {args : Array Value} {below : List Frame} {meth : Method} {c : Code} {T : State} {locs : List Loc} {cells slots : Nat}
/-- the invocation comes to y with a -/
def tGo (p : Program) (l : Launch) (e : Env) (R : Room) (s : State) (m : MethodId) (args : Array Value) (below : List Frame) (meth : Method) (c : Code) (T : State) (locs : List Loc) (cells slots : Nat) (g : JFrame) (rest : List Value) (y : MethodName) (a : Array Value) : Prop :=
  ∃ (vm₁ : Vm) (mk : MethodId), s.WarmedH vm₁ ∧ Stand p l e R s m args below meth c (T.setVm vm₁) locs cells slots ∧ s.methodNamed? y = some mk ∧ ∀ target, Steps p.tables e below (doInvoke e ((T.setVm vm₁).setTop { g with stack := rest }) [] mk a).1 target → Steps p.tables e below (T.setTop g) target
def hyOK (y : MethodName) : Prop := y.cls ≠ "java/lang/invoke/MethodHandle" ∧ y.cls ≠ "java/lang/invoke/VarHandle"
theorem t_plen {y : MethodName} {n : Nat} (hn : (parseMethodDescriptor y.desc).map (fun d => d.parameters.length) = some n) {k : Nat} (hk : k = n) : ∀ sig, parseMethodDescriptor y.desc = some sig → k = sig.parameters.length := by
  intro sig h
  rw [h] at hn
  rw [hk]
  exact (Option.some.inj hn).symm
theorem goV (X : Stand p l e R s m args below meth c T locs cells slots) (hexec : p.tables.exec = Jvm.exec) {own C : String} {index n : Nat} {y : MethodName} {bytes : ByteArray} {maxL : Nat} {ret : Option FieldType} (hown : s.vm.findClass own = some m.cls) (hts : ∀ w ∈ lw_all, w.before args s = true)
    (hlink : Cond.methodLink own index y ∈ lw_all) (hinst : Cond.instanceMethod y ∈ lw_all) (hsel : Cond.selects C y y ∈ lw_all) (hcode : (Cond.code y bytes maxL ret).before args s = true) (hy : hyOK y) (hn : (parseMethodDescriptor y.desc).map (fun d => d.parameters.length) = some n)
    {b : Addr} {cellB : Cell} (hcell : T.heap[b]? = some cellB) (hobj : cellB.vm.isStatics = false) (hcls : s.vm.findClass C = some cellB.cls)
    {g : JFrame} (hg : g.method = m) {argsL rest : List Value} (hl : argsL.length = n) (hstack : g.stack = argsL.reverse ++ .ref b :: rest) (hdg : decode c.code g.pc = .ok (.invokevirtual index, 3)) :
    tGo p l e R s m args below meth c T locs cells slots g rest y (Value.ref b :: argsL).toArray := by
  obtain ⟨mk, methM, hnamed, hmethM, hstM, habM⟩ := Cond.instanceMethod_spec (hts _ hinst)
  obtain ⟨methM', cM, hmethM', -, -, -, -, -, -, hsigM⟩ := Cond.code_spec hnamed hcode
  cases hmethM.symm.trans hmethM'
  obtain ⟨c2, r2, m2, q1, q2, q3, q4, kP, hkP, hkPi⟩ := Cond.selects_spec (hts _ hsel)
  cases hcls.symm.trans q1
  cases (State.methodFound?_of_named hnamed hy).symm.trans q2
  cases hnamed.symm.trans q3
  have hselP : selectMethod e.platform s.vm cellB.cls mk = .method mk := by rw [Launch.admits_selectMethod X.admits]; exact q4
  obtain ⟨vm₁, X₁, hstep₁⟩ := X.invokevirtual hexec hown (hts _ hlink) hnamed hmethM hstM hkP hkPi hy (a := b) (cell := cellB) hcell
    (fun z h => by rw [h] at hobj; cases hobj) hselP hmethM habM hkP hkPi (g := g) hg (argsL := argsL) (rest := rest) (t_plen hn hl _ hsigM) hstack hdg
  exact ⟨vm₁, mk, X₁.warmed, X₁, hnamed, fun target h => hstep₁ _ fun acts => by rw [doInvoke_state]; exact h⟩
theorem goVN (X : Stand p l e R s m args below meth c T locs cells slots) (hexec : p.tables.exec = Jvm.exec) {own C host : String} {index n : Nat} {y : MethodName} {bytes : ByteArray} {maxL : Nat} {ret : Option FieldType} (hown : s.vm.findClass own = some m.cls) (hts : ∀ w ∈ lw_all, w.before args s = true)
    (hlink : (Cond.methodLinkNest own index y host).before args s = true) (hinst : Cond.instanceMethod y ∈ lw_all) (hsel : Cond.selects C y y ∈ lw_all) (hcode : (Cond.code y bytes maxL ret).before args s = true) (hy : hyOK y) (hn : (parseMethodDescriptor y.desc).map (fun d => d.parameters.length) = some n)
    {b : Addr} {cellB : Cell} (hcell : T.heap[b]? = some cellB) (hobj : cellB.vm.isStatics = false) (hcls : s.vm.findClass C = some cellB.cls)
    {g : JFrame} (hg : g.method = m) {argsL rest : List Value} (hl : argsL.length = n) (hstack : g.stack = argsL.reverse ++ .ref b :: rest) (hdg : decode c.code g.pc = .ok (.invokevirtual index, 3)) :
    tGo p l e R s m args below meth c T locs cells slots g rest y (Value.ref b :: argsL).toArray := by
  obtain ⟨mk, methM, hnamed, hmethM, hstM, habM⟩ := Cond.instanceMethod_spec (hts _ hinst)
  obtain ⟨methM', cM, hmethM', -, -, -, -, -, -, hsigM⟩ := Cond.code_spec hnamed hcode
  cases hmethM.symm.trans hmethM'
  obtain ⟨c2, r2, m2, q1, q2, q3, q4, kP, hkP, hkPi⟩ := Cond.selects_spec (hts _ hsel)
  cases hcls.symm.trans q1
  cases (State.methodFound?_of_named hnamed hy).symm.trans q2
  cases hnamed.symm.trans q3
  have hselP : selectMethod e.platform s.vm cellB.cls mk = .method mk := by rw [Launch.admits_selectMethod X.admits]; exact q4
  obtain ⟨vm₁, X₁, hstep₁⟩ := X.invokevirtualNest hexec hown hlink hnamed hmethM hstM hkP hkPi hy (a := b) (cell := cellB) hcell
    (fun z h => by rw [h] at hobj; cases hobj) hselP hmethM habM hkP hkPi (g := g) hg (argsL := argsL) (rest := rest) (t_plen hn hl _ hsigM) hstack hdg
  exact ⟨vm₁, mk, X₁.warmed, X₁, hnamed, fun target h => hstep₁ _ fun acts => by rw [doInvoke_state]; exact h⟩
theorem goS (X : Stand p l e R s m args below meth c T locs cells slots) (hexec : p.tables.exec = Jvm.exec) {own : String} {index n : Nat} {y : MethodName} {bytes : ByteArray} {maxL : Nat} {ret : Option FieldType} (hown : s.vm.findClass own = some m.cls) (hts : ∀ w ∈ lw_all, w.before args s = true)
    (hlink : Cond.methodLink own index y ∈ lw_all) (hstat : Cond.static y ∈ lw_all) (hinit : Cond.initialized y.cls ∈ lw_all) (hcode : (Cond.code y bytes maxL ret).before args s = true) (hy : hyOK y) (hn : (parseMethodDescriptor y.desc).map (fun d => d.parameters.length) = some n)
    {g : JFrame} (hg : g.method = m) {argsL rest : List Value} (hl : argsL.length = n) (hstack : g.stack = argsL.reverse ++ rest) (hdg : decode c.code g.pc = .ok (.invokestatic index, 3)) :
    tGo p l e R s m args below meth c T locs cells slots g rest y argsL.toArray := by
  obtain ⟨mk, hnamed⟩ := Cond.code_named hcode
  obtain ⟨methM, cM, hmethM, -, -, -, -, -, -, hsigM⟩ := Cond.code_spec hnamed hcode
  have hstatic : methM.isStatic = true := Cond.static_spec hnamed hmethM (hts _ hstat)
  obtain ⟨kP, hkP, -⟩ := className_of_methodNamed hnamed
  have hinitP : kP.init = .initialized := Cond.initialized_spec (findClass_of_methodNamed hnamed) hkP (hts _ hinit)
  obtain ⟨vm₁, X₁, hstep₁⟩ := X.invokestatic hexec hown (hts _ hlink) hnamed hmethM hstatic hkP hinitP hy (g := g) hg (argsL := argsL) (rest := rest) (t_plen hn hl _ hsigM) hstack hdg
  exact ⟨vm₁, mk, X₁.warmed, X₁, hnamed, fun target h => hstep₁ _ fun acts => by rw [doInvoke_state]; exact h⟩
theorem goSN (X : Stand p l e R s m args below meth c T locs cells slots) (hexec : p.tables.exec = Jvm.exec) {own host : String} {index n : Nat} {y : MethodName} {bytes : ByteArray} {maxL : Nat} {ret : Option FieldType} (hown : s.vm.findClass own = some m.cls) (hts : ∀ w ∈ lw_all, w.before args s = true)
    (hlink : (Cond.methodLinkNest own index y host).before args s = true) (hstat : Cond.static y ∈ lw_all) (hinit : Cond.initialized y.cls ∈ lw_all) (hcode : (Cond.code y bytes maxL ret).before args s = true) (hy : hyOK y) (hn : (parseMethodDescriptor y.desc).map (fun d => d.parameters.length) = some n)
    {g : JFrame} (hg : g.method = m) {argsL rest : List Value} (hl : argsL.length = n) (hstack : g.stack = argsL.reverse ++ rest) (hdg : decode c.code g.pc = .ok (.invokestatic index, 3)) :
    tGo p l e R s m args below meth c T locs cells slots g rest y argsL.toArray := by
  obtain ⟨mk, hnamed⟩ := Cond.code_named hcode
  obtain ⟨methM, cM, hmethM, -, -, -, -, -, -, hsigM⟩ := Cond.code_spec hnamed hcode
  have hstatic : methM.isStatic = true := Cond.static_spec hnamed hmethM (hts _ hstat)
  obtain ⟨kP, hkP, -⟩ := className_of_methodNamed hnamed
  have hinitP : kP.init = .initialized := Cond.initialized_spec (findClass_of_methodNamed hnamed) hkP (hts _ hinit)
  obtain ⟨vm₁, X₁, hstep₁⟩ := X.invokestaticNest hexec hown hlink hnamed hmethM hstatic hkP hinitP hy (g := g) hg (argsL := argsL) (rest := rest) (t_plen hn hl _ hsigM) hstack hdg
  exact ⟨vm₁, mk, X₁.warmed, X₁, hnamed, fun target h => hstep₁ _ fun acts => by rw [doInvoke_state]; exact h⟩
theorem goI (X : Stand p l e R s m args below meth c T locs cells slots) (hexec : p.tables.exec = Jvm.exec) {own : String} {index n : Nat} {y : MethodName} {bytes : ByteArray} {maxL : Nat} (hown : s.vm.findClass own = some m.cls) (hts : ∀ w ∈ lw_all, w.before args s = true) (hy1 : y.name = "<init>")
    (hlink : Cond.methodLink own index y ∈ lw_all) (hinst : Cond.instanceMethod y ∈ lw_all) (hcode : (Cond.code y bytes maxL none).before args s = true) (hy : hyOK y) (hn : (parseMethodDescriptor y.desc).map (fun d => d.parameters.length) = some n)
    {g : JFrame} (hg : g.method = m) {a : Addr} {argsL rest : List Value} (hl : argsL.length = n) (hstack : g.stack = argsL.reverse ++ .ref a :: rest) (hdg : decode c.code g.pc = .ok (.invokespecial index, 3)) :
    tGo p l e R s m args below meth c T locs cells slots g rest y (Value.ref a :: argsL).toArray := by
  subst hg
  have hpl : e.platform.magicAccessors = ({} : Platform).magicAccessors := by rw [X.admits.platform]
  obtain ⟨mk, methM, cM, kP, vm₁, hnamed, hmethM, hcodeM, -, hlocalsM, -, hkP, -, hW₁, hstep₁⟩ := Steps.initColdArgs (e := e) X.here hexec X.warmed hpl hown hy1 hy (hts _ hlink) (hts _ hinst) hcode (f := g) rfl (t_plen hn hl) hstack hdg
  exact ⟨vm₁, mk, hW₁, X.noted hW₁, hnamed, fun target h => hstep₁ _ fun acts => by rw [doInvoke_state]; exact h⟩
theorem goIN (X : Stand p l e R s m args below meth c T locs cells slots) (hexec : p.tables.exec = Jvm.exec) {own host : String} {index n : Nat} {y : MethodName} {bytes : ByteArray} {maxL : Nat} (hown : s.vm.findClass own = some m.cls) (hts : ∀ w ∈ lw_all, w.before args s = true) (hy1 : y.name = "<init>")
    (hlink : (Cond.methodLinkNest own index y host).before args s = true) (hinst : Cond.instanceMethod y ∈ lw_all) (hcode : (Cond.code y bytes maxL none).before args s = true) (hy : hyOK y) (hn : (parseMethodDescriptor y.desc).map (fun d => d.parameters.length) = some n)
    {g : JFrame} (hg : g.method = m) {a : Addr} {argsL rest : List Value} (hl : argsL.length = n) (hstack : g.stack = argsL.reverse ++ .ref a :: rest) (hdg : decode c.code g.pc = .ok (.invokespecial index, 3)) :
    tGo p l e R s m args below meth c T locs cells slots g rest y (Value.ref a :: argsL).toArray := by
  subst hg
  have hpl : e.platform.magicAccessors = ({} : Platform).magicAccessors := by rw [X.admits.platform]
  obtain ⟨mk, methM, cM, kP, vm₁, hnamed, hmethM, hcodeM, -, hlocalsM, -, hkP, -, hW₁, hstep₁⟩ := Steps.initColdArgsNest (e := e) X.here hexec X.warmed hpl hown hy1 hy hlink (hts _ hinst) hcode (f := g) rfl (t_plen hn hl) hstack hdg
  exact ⟨vm₁, mk, hW₁, X.noted hW₁, hnamed, fun target h => hstep₁ _ fun acts => by rw [doInvoke_state]; exact h⟩
end TGO
theorem tSt_len : ∀ (ks : List Nat) (as : List Int), as.length = ks.length → (tSt ks as).length = ks.length
  | [], [], _ => rfl
  | k :: ks, x :: as, h => by
    rw [tSt_cons, List.length_cons, List.length_cons, tSt_len ks as (by simpa using h)]
theorem tSt_app : ∀ (k1 k2 : List Nat) (a1 a2 : List Int), a1.length = k1.length → tSt (k1 ++ k2) (a1 ++ a2) = tSt k1 a1 ++ tSt k2 a2
  | [], k2, [], a2, _ => rfl
  | k :: ks, k2, x :: as, a2, h => by
    rw [List.cons_append, List.cons_append, tSt_cons, tSt_cons, tSt_app ks k2 as a2 (by simpa using h)]
    rfl
theorem tSt_rev : ∀ (ks : List Nat) (as : List Int), as.length = ks.length → tSt ks.reverse as.reverse = (tSt ks as).reverse
  | [], [], _ => rfl
  | k :: ks, x :: as, h => by
    have hl : as.length = ks.length := by simpa using h
    rw [List.reverse_cons, List.reverse_cons, tSt_app _ _ _ _ (by simp [hl]), tSt_rev ks as hl]
    show _ = (tE k x :: tSt ks as).reverse
    rw [List.reverse_cons]
    rfl
def kCat (k : Nat) : Nat := if k = 1 then 2 else 1
theorem tSt_cat : ∀ (ks : List Nat) (as : List Int), as.length = ks.length → ((tSt ks as).map fun v => v.category).sum = (ks.map kCat).sum
  | [], [], _ => rfl
  | k :: ks, x :: as, h => by
    rw [tSt_cons, List.map_cons, List.map_cons, List.sum_cons, List.sum_cons, tE_cat, tSt_cat ks as (by simpa using h)]
    rfl
theorem tMono_cells {a b c : Int} (h1 : c ≤ a) (h2 : a ≤ b) : (a - c).toNat + (b - a).toNat = (b - c).toNat := by omega
section TCW
variable {E : tM} {pc : Nat} {lt : List (Nat × Nat)}
/-- a call, in a place of a walk -/
theorem tCallW {y : MethodName} {bytes : ByteArray} {maxL : Nat} {rt : Option FieldType} {ks tsr : List Nat} {fr lo : Nat} {F : tFn} (hM : tMX (tM.D E) (tM.b0 E) y (ws_ y bytes maxL rt) rt ks fr lo F) (hcode : Cond.code y bytes maxL rt ∈ lw_all) (hini : Cond.initialized y.cls ∈ lw_all)
    (hfr : fr + 1 ≤ tM.fr E) (hlo : (tsr.map kCat).sum + (maxL + 11) + lo ≤ tM.lo E) (hh : (tM.hh E).all (fun q => !(decide (q.1 ≤ pc) && decide (pc < q.2.1))) = true)
    {as Sr L : List Int} {h h' : tH} {o : Bool × Int} (hF : F as h = some (o, h')) (hla : as.length = ks.length) (hlr : Sr.length = tsr.length)
    {p : Program} {l : Launch} {e : Env} {R : Room} {s : State} {m : MethodId} {args : Array Value} {below : List Frame} {meth : Method} {c : Code} {n0 u0 : Int} {fin : (Bool × Int) × tH} (hC : tC E l p R s m args meth c)
    (a1 : n0 ≤ h.2.2.2.1) (a2 : u0 ≤ h.2.2.2.2) (a3 : h'.2.2.2.1 ≤ fin.2.2.2.2.1) (a4 : h'.2.2.2.2 ≤ fin.2.2.2.2.2) (a5 : R.cells = (fin.2.2.2.2.1 - n0).toNat) (a6 : R.slots = (fin.2.2.2.2.2 - u0).toNat)
    {ig : Instr} (hd : decode (tM.cc E) pc = .ok (ig, 3))
    (hgo : ∀ (ls : Array Slot) (H : Heap) (locs : List Loc) (cells slots : Nat) (T : State), tR (tM.D E) (tM.b0 E) h H → T.heap = H → Stand p l e R s m args below meth c T locs cells slots → tGo p l e R s m args below meth c T locs cells slots (F0 m pc ls ((tSt ks as).reverse ++ tSt tsr Sr)) (tSt tsr Sr) y (tSt ks as).toArray)
    (hT : o.1 = true → fin = (o, h')) (hW : o.1 = false → tW E p l e R s m args below meth c n0 u0 fin (pc + 3) lt ((rt.map kdF).toList ++ tsr) L ((rt.map fun _ => o.2).toList ++ Sr) h') :
    tW E p l e R s m args below meth c n0 u0 fin pc lt (ks.reverse ++ tsr) L (as.reverse ++ Sr) h := by
  intro ls H locs g1 g2 g3
  rw [tSt_app _ _ _ _ (by simp [hla]), tSt_rev _ _ hla]
  intro T hT0 X
  obtain ⟨vm₁, mk, hw1, X₁, hnamed, hgo1⟩ := hgo ls H locs _ _ T g2 hT0 X
  have hmono := (hM l as h o h' hF hla).1
  have hts := hC.2.2.2.2.1
  have hbig : ∀ w ∈ ws_ y bytes maxL rt, w ∈ lw_all := fun w hw => by
    rcases List.mem_cons.mp hw with z | z
    · rw [z]; exact hcode
    · exact z
  have hwords : ∀ w ∈ lw_all, w.before (tSt ks as).toArray (T.setVm vm₁) = true := fun w hw => word_at hw1 (lw_self w hw).2 (hts w hw)
  have hnT : (T.setVm vm₁).methodNamed? y = some mk := X₁.named hnamed
  obtain ⟨methY, cY, hmY, hcY, -, hlY, -⟩ := Cond.code_spec hnT (hwords _ hcode)
  have hheap1 : (T.setVm vm₁).heap = H := hT0
  obtain ⟨T', Ls, X', hLs, hR', hlow, hsz, hsteps⟩ := tBack X₁ (W := (tsr.map kCat).sum) (len := 3) (maxL := maxL) hM hF hla (Nat.le_trans hfr hC.2.2.2.2.2.2.2.1) (Nat.le_trans hlo hC.2.2.2.2.2.2.2.2.1) (by omega) (by omega)
    (fun w hw => hwords w (hbig w hw)) (hwords _ hini) (g := { F0 m pc ls ((tSt ks as).reverse ++ tSt tsr Sr) with stack := tSt tsr Sr }) (ig := ig) (mk := mk) rfl (by rw [hC.2.2.1]; exact g1.1) (by rw [hC.2.1]; exact hd)
    (by
      show 2 * (F0 m pc ls (tSt tsr Sr)).monitorRoom + ((tSt tsr Sr).map fun v => v.category).sum ≤ _
      rw [tSt_cat _ _ hlr]
      simp [JFrame.monitorRoom]) hnT ⟨methY, cY, hmY, hcY, hlY⟩ (by rw [hheap1]; exact g2) (tK.moved hw1.alike hC.2.2.2.2.2.1) (tKw.warm hw1 hC.2.2.2.2.2.2.2.2.2.2.2.2.2.1) (by rw [hheap1]; exact Nat.le_trans hC.2.2.2.2.2.2.1 g3.1) (by rw [hheap1]; exact tZs.go (U := T.setVm vm₁) hw1 g3.2.1 hC.2.2.2.2.2.2.2.2.2.2.2.2.2.2.1) hC.2.2.2.2.2.2.2.2.2.2.2.2.2.2.2
  rw [hheap1] at hlow hsz
  have hS' : va_S (fun q => tM.b0 E ≤ q) s.heap T'.heap (locs ++ Ls) := ⟨Nat.le_trans g3.1 hsz, fun q hq hA => by rw [hlow q (by omega)]; exact g3.2.1 q hq hA, fun q hq => by
    rcases List.mem_append.mp hq with z | z
    · exact g3.2.2 q z
    · exact hLs q z⟩
  rw [tMono_cells a1 hmono.1, tMono_cells a2 hmono.2] at X'
  cases ho : o.1 with
  | false =>
    have hw := hW ho ls T'.heap (locs ++ Ls) g1 hR' hS'
    have hst : tSt ((rt.map kdF).toList ++ tsr) ((rt.map fun _ => o.2).toList ++ Sr) = (rt.map fun t => tE (kdF t) o.2).toList ++ tSt tsr Sr := by
      cases rt with
      | none => rfl
      | some t => rfl
    rw [hst] at hw
    obtain ⟨t, b1, b2⟩ := hw T' rfl X'
    refine ⟨t, hgo1 _ (hsteps.trans ?_), b2⟩
    unfold tAfter
    rw [ho]
    exact b1
  | true =>
    have hfin := hT ho
    subst hfin
    obtain ⟨hsteps2, hrun, hend, hwm, hsame⟩ := X'.leaveThrown (o.2 - 1).toNat (g := { F0 m pc ls ((tSt ks as).reverse ++ tSt tsr Sr) with stack := tSt tsr Sr }) rfl rfl rfl (tHh hC.2.2.2.2.2.2.2.2.2.2.2.2.1 hh) hC.2.2.2.2.2.2.2.2.2.1
    refine ⟨T'.setFrames (.throwing (o.2 - 1).toNat :: below), hgo1 _ (hsteps.trans ?_), hrun, ?_, hR', hwm, fun q hq => ?_, locs ++ Ls, hsame, hS'.2.2⟩
    · unfold tAfter
      rw [ho]
      exact hsteps2
    · have h1 : tO (tM.rt E) o = .threw (o.2 - 1).toNat := by unfold tO; rw [ho]
      rw [h1]
      exact hend
    · show T'.heap[q]? = _
      exact hS'.2.1 q (Nat.lt_of_lt_of_le hq hC.2.2.2.2.2.2.1) (by omega)
end TCW
