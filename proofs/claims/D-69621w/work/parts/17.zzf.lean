/-! T, more: handlers -/
section FND
variable {E : CtlPost} {e : Env} {d : Bool} {acts : List Action} {s : State} {f : JFrame} {a : Addr} {Q : Handler → Pre}
theorem find_cold {x : ExceptionTableEntry} {t : List ExceptionTableEntry} {c : ClassId} {cell : Cell} {vm' : Vm} (hx : covers x f.pc = true) (h0 : x.catchType ≠ 0)
    (hg : (Jvm.resolveClass f.method.cls x.catchType).Gives e.toSetting s.vm (.ok c) vm') (hsz : vm'.classes.size ≤ s.vm.classes.size) (hcell : s.heap[a]? = some cell) (hobj : ∀ k, cell.vm ≠ .statics k)
    (hk : ∃ k, vm'.classes[cell.cls]? = some k) (hc : ∃ k, vm'.classes[c]? = some k) (hfit : vm'.assignable cell.cls c = true) :
    wp (findHandler.go f a (x :: t)) Q E e d acts s ↔ Q (.found x.handlerPc) d acts (s.setVm vm') := by
  simp only [covers] at hx
  obtain ⟨h1, h2⟩ : (VmOp.resolveClass f.method.cls x.catchType).answer e s.vm = .ok c ∧ (VmOp.resolveClass f.method.cls x.catchType).tables e s.vm = vm' := hg.op rfl
  simp [findHandler.go, hx, h0, W.vmOp_same _ (show ((VmOp.resolveClass f.method.cls x.catchType).tables e s.vm).classes.size ≤ s.vm.classes.size by rw [h2]; exact hsz), h1, h2, hcell, hobj, hk, hc, hfit, VmOp.dirties, VmOp.acts]
end FND
def FindsTo (e : Env) (s : State) (f : JFrame) (a : Addr) (h : Handler) (vm' : Vm) : Prop :=
  ∀ (Q : Handler → Pre) (E : CtlPost) (d : Bool) (acts : List Action), wp (findHandler f a) Q E e d acts s ↔ Q h d acts (s.setVm vm')
theorem st_catchC {e : Env} {s : State} {a : Addr} {f : JFrame} {r : List Frame} {pc : Nat} {vm' : Vm} (hfind : FindsTo e s f a (.found pc) vm') :
    (stepThrowing e s a (.java f :: r)).Is ((s.setVm vm').setFrames (.java { f with pc := pc, stack := [.ref a] } :: r)) [] := by
  simp only [stepThrowing, searchFrame, vmDo]
  generalize hr : Sem.go _ e false [] s = res
  obtain ⟨as, rfl, ha⟩ := Sem.eq_ok_of hr (a := Handler.found pc) (s' := s.setVm vm') (acts' := []) (by simp [hfind _ _ _ _])
  exact ⟨rfl, ha⟩
theorem caughtC {tb : Tables} {e : Env} {s target : State} {g : JFrame} {c : Code} {below : List Frame} {a : Addr} (h : At s g.method c below) {pc : Nat} {vm' : Vm} (hfind : FindsTo e ((s.setTop g).pushFrame (.throwing a)) g a (.found pc) vm')
    (hrest : Steps tb e below ((s.setVm vm').setTop { g with pc := pc, stack := [.ref a] }) target) :
    Steps tb e below ((s.setTop g).pushFrame (.throwing a)) target := by
  obtain ⟨hgo, hw⟩ := h.throwing a
  refine Steps.head hgo hw ?_
  rw [stepThread_throwing (frames_entered h.top _), (st_catchC (s := (s.setTop g).pushFrame (.throwing a)) hfind).1]
  obtain ⟨g₀, hg⟩ := Option.isSome_iff_exists.mp h.top
  obtain ⟨r, hr⟩ := State.topJava?_eq_some.mp hg
  have hr2 : (s.setVm vm').frames = .java g₀ :: r := hr
  rw [State.setTop_of_frames _ hr2] at hrest
  have e1 : ((((s.setTop g).pushFrame (.throwing a)).setVm vm').setFrames (.java { g with pc := pc, stack := [.ref a] } :: s.frames.tail)) = (s.setVm vm').setFrames (.java { g with pc := pc, stack := [.ref a] } :: r) := by
    rw [State.pushFrame, State.setTop_of_frames _ hr, hr]
    show (((s.setVm vm').setFrames (Frame.java g :: r)).setFrames (Frame.throwing a :: (s.setFrames (Frame.java g :: r)).frames)).setFrames _ = _
    rw [State.setFrames_setFrames, State.setFrames_setFrames]
    rfl
  rw [e1]
  exact hrest
section TCWC
variable {E : tM} {pc : Nat} {lt : List (Nat × Nat)}
theorem tCallWC {y : MethodName} {bytes : ByteArray} {maxL : Nat} {rt : Option FieldType} {ks tsr : List Nat} {fr lo : Nat} {F : tFn} (hM : tMX (tM.D E) (tM.b0 E) y (ws_ y bytes maxL rt) rt ks fr lo F) (hcode : Cond.code y bytes maxL rt ∈ lw_all) (hini : Cond.initialized y.cls ∈ lw_all)
    (hfr : fr + 1 ≤ tM.fr E) (hlo : (tsr.map kCat).sum + (maxL + 11) + lo ≤ tM.lo E) {f0 t0 hp ci : Nat} (hh : tM.hh E = [(f0, t0, hp, ci)]) (hcov : (decide (f0 ≤ pc) && decide (pc < t0)) = true) (hci : ci ≠ 0) (hcl : Cond.classLink (tM.own E) ci RJ3 ∈ lw_all)
    {as Sr L : List Int} {h h' : tH} {o : Bool × Int} (hF : F as h = some (o, h')) (hla : as.length = ks.length) (hlr : Sr.length = tsr.length)
    {p : Program} {l : Launch} {e : Env} {R : Room} {s : State} {m : MethodId} {args : Array Value} {below : List Frame} {meth : Method} {c : Code} {n0 u0 : Int} {fin : (Bool × Int) × tH} (hC : tC E l p R s m args meth c)
    (a1 : n0 ≤ h.2.2.2.1) (a2 : u0 ≤ h.2.2.2.2) (a3 : h'.2.2.2.1 ≤ fin.2.2.2.2.1) (a4 : h'.2.2.2.2 ≤ fin.2.2.2.2.2) (a5 : R.cells = (fin.2.2.2.2.1 - n0).toNat) (a6 : R.slots = (fin.2.2.2.2.2 - u0).toNat)
    {ig : Instr} (hd : decode (tM.cc E) pc = .ok (ig, 3))
    (hgo : ∀ (ls : Array Slot) (H : Heap) (locs : List Loc) (cells slots : Nat) (T : State), tR (tM.D E) (tM.b0 E) h H → T.heap = H → Stand p l e R s m args below meth c T locs cells slots → tGo p l e R s m args below meth c T locs cells slots (F0 m pc ls ((tSt ks as).reverse ++ tSt tsr Sr)) (tSt tsr Sr) y (tSt ks as).toArray)
    (hx : o.1 = true → h'.2.2.1 o.2 = 44) (hT : o.1 = true → tW E p l e R s m args below meth c n0 u0 fin hp lt [2] L [o.2] h') (hW : o.1 = false → tW E p l e R s m args below meth c n0 u0 fin (pc + 3) lt ((rt.map kdF).toList ++ tsr) L ((rt.map fun _ => o.2).toList ++ Sr) h') :
    tW E p l e R s m args below meth c n0 u0 fin pc lt (ks.reverse ++ tsr) L (as.reverse ++ Sr) h := by
  intro ls H locs g1 g2 g3
  rw [tSt_app _ _ _ _ (by simp [hla]), tSt_rev _ _ hla]
  intro T hT0 X
  obtain ⟨vm₁, mk, hw1, X₁, hnamed, hgo1⟩ := hgo ls H locs _ _ T g2 hT0 X
  have hmono := (hM l as h o h' hF hla).1
  have hts := hC.2.2.2.2.1
  have hbig : ∀ w ∈ ws_ y bytes maxL rt, w ∈ lw_all := fun w hw => by
    rcases List.mem_cons.mp hw with z | z
    · rw [z]; exact hcode
    · exact z
  have hwords : ∀ w ∈ lw_all, w.before (tSt ks as).toArray (T.setVm vm₁) = true := fun w hw => word_at hw1 (lw_self w hw).2 (hts w hw)
  have hnT : (T.setVm vm₁).methodNamed? y = some mk := X₁.named hnamed
  obtain ⟨methY, cY, hmY, hcY, -, hlY, -⟩ := Cond.code_spec hnT (hwords _ hcode)
  have hheap1 : (T.setVm vm₁).heap = H := hT0
  obtain ⟨T', Ls, X', hLs, hR', hlow, hsz, hsteps⟩ := tBack X₁ (W := (tsr.map kCat).sum) (len := 3) (maxL := maxL) hM hF hla (Nat.le_trans hfr hC.2.2.2.2.2.2.2.1) (Nat.le_trans hlo hC.2.2.2.2.2.2.2.2.1) (by omega) (by omega)
    (fun w hw => hwords w (hbig w hw)) (hwords _ hini) (g := { F0 m pc ls ((tSt ks as).reverse ++ tSt tsr Sr) with stack := tSt tsr Sr }) (ig := ig) (mk := mk) rfl (by rw [hC.2.2.1]; exact g1.1) (by rw [hC.2.1]; exact hd)
    (by
      show 2 * (F0 m pc ls (tSt tsr Sr)).monitorRoom + ((tSt tsr Sr).map fun v => v.category).sum ≤ _
      rw [tSt_cat _ _ hlr]
      simp [JFrame.monitorRoom]) hnT ⟨methY, cY, hmY, hcY, hlY⟩ (by rw [hheap1]; exact g2) (tK.moved hw1.alike hC.2.2.2.2.2.1) (tKw.warm hw1 hC.2.2.2.2.2.2.2.2.2.2.2.2.2.1) (by rw [hheap1]; exact Nat.le_trans hC.2.2.2.2.2.2.1 g3.1) (by rw [hheap1]; exact tZs.go (U := T.setVm vm₁) hw1 g3.2.1 hC.2.2.2.2.2.2.2.2.2.2.2.2.2.2.1) hC.2.2.2.2.2.2.2.2.2.2.2.2.2.2.2
  rw [hheap1] at hlow hsz
  have hS' : va_S (fun q => tM.b0 E ≤ q) s.heap T'.heap (locs ++ Ls) := ⟨Nat.le_trans g3.1 hsz, fun q hq hA => by rw [hlow q (by omega)]; exact g3.2.1 q hq hA, fun q hq => by
    rcases List.mem_append.mp hq with z | z
    · exact g3.2.2 q z
    · exact hLs q z⟩
  rw [tMono_cells a1 hmono.1, tMono_cells a2 hmono.2] at X'
  cases ho : o.1 with
  | false =>
    have hw := hW ho ls T'.heap (locs ++ Ls) g1 hR' hS'
    have hst : tSt ((rt.map kdF).toList ++ tsr) ((rt.map fun _ => o.2).toList ++ Sr) = (rt.map fun t => tE (kdF t) o.2).toList ++ tSt tsr Sr := by
      cases rt with
      | none => rfl
      | some t => rfl
    rw [hst] at hw
    obtain ⟨t, b1, b2⟩ := hw T' rfl X'
    refine ⟨t, hgo1 _ (hsteps.trans ?_), b2⟩
    unfold tAfter
    rw [ho]
    exact b1
  | true =>
    obtain ⟨ax, eax, hax, cellx, x1, x2, x3, x4⟩ := hR'.objO (c := 44) (by decide) (hx ho) (show xcl 44 = some (RJ3, TJ3, 6) from rfl)
    have hax' : (o.2 - 1).toNat = ax := by omega
    have hw := hT ho ls T'.heap (locs ++ Ls) g1 hR' hS'
    rw [tSt_cons, eax, tE_ptr] at hw
    have hpl : e.platform.magicAccessors = ({} : Platform).magicAccessors := by rw [X'.admits.platform]
    obtain ⟨cc', hfcc, hcl'⟩ := Cond.classLink_spec hC.2.2.2.1 (hts _ hcl) e.platform hpl
    obtain ⟨hg₁, hwarm₁, hready₁⟩ := State.classEntry (e := e) X'.warmed hcl'
    generalize hvm : T'.vm.noted m.cls ci (.cls cc') = vm₂ at hg₁ hwarm₁ hready₁
    have hsz : vm₂.classes.size ≤ T'.vm.classes.size := by rw [← hvm]; no_record
    have X2 := X'.noted hwarm₁
    have hcls : cellx.cls = cc' := by
      rw [x2]
      exact Option.some.inj ((hC.2.2.2.2.2.1.1 44 _ rfl).2.1.symm.trans hfcc)
    obtain ⟨kc, hkc, -⟩ := Vm.findClass_spec hfcc
    obtain ⟨kc', hkc', -⟩ := hwarm₁.alike.2.2 _ _ hkc
    have hX := hC.2.2.2.2.2.2.2.2.2.2.2.2.1
    rw [hh] at hX
    have hxs : ∃ xe : ExceptionTableEntry, c.exceptionTable.toList = [xe] ∧ xe.startPc = f0 ∧ xe.endPc = t0 ∧ xe.handlerPc = hp ∧ xe.catchType = ci := by
      cases hl : c.exceptionTable.toList with
      | nil => rw [hl] at hX; cases hX
      | cons xe r =>
        rw [hl] at hX
        cases r with
        | nil =>
          simp only [List.map_cons, List.map_nil, List.cons.injEq, Prod.mk.injEq, and_true] at hX
          exact ⟨xe, rfl, hX.1, hX.2.1, hX.2.2.1, hX.2.2.2⟩
        | cons y r2 => simp at hX
    obtain ⟨xe, hl, z1, z2, z3, z4⟩ := hxs
    obtain ⟨t9, b1, b2⟩ := hw (T'.setVm vm₂) rfl X2
    refine ⟨t9, hgo1 _ (hsteps.trans ?_), b2⟩
    unfold tAfter
    rw [ho, hax']
    show Steps p.tables e below _ t9
    refine caughtC (g := { F0 m pc ls ((tSt ks as).reverse ++ tSt tsr Sr) with stack := tSt tsr Sr }) X'.here (pc := hp) (vm' := vm₂) ?_ b1
    intro Q E9 d acts
    rw [W.findHandler_eq (s := (T'.setTop { F0 m pc ls ((tSt ks as).reverse ++ tSt tsr Sr) with stack := tSt tsr Sr }).pushFrame (.throwing ax)) (meth := meth) (code := c) (by rw [throwing_vm]; exact X'.method') X'.code, hl]
    rw [find_cold (c := cc') (cell := cellx) (vm' := vm₂) (by show (decide (xe.startPc ≤ pc) && decide (pc < xe.endPc)) = true; rw [z1, z2]; exact hcov) (by rw [z4]; exact hci) (by rw [z4, throwing_vm]; exact hg₁) (by rw [throwing_vm]; exact hsz) (by rw [throwing_heap]; exact x1) (fun k hk => by rw [x3] at hk; cases hk) ⟨kc', by rw [hcls]; exact hkc'⟩ ⟨kc', hkc'⟩ (by rw [hcls]; exact t_asg _ _), z3]
end TCWC
def o_callC (F : tFn) (n : Nat) (K KH : tB) : tB := fun L S h => match F (S.take n).reverse h with
  | none => none
  | some ((false, _), h') => K L (S.drop n) h'
  | some ((true, q), h') => if h'.2.2.1 q = 44 then KH L [q] h' else none
def mv_callC (ct : Nat) (F : tFn) (n : Nat) (K KH : tX) : tX := ⟨(fun L S h => if h.2.2.1 (S.getD (n - 1) 0) = ct then o_callC F n K.1.1 KH.1.1 L S h else none, fun L S h J R => h.2.2.1 (S.getD (n - 1) 0) = ct ∧ wF F (S.take n).reverse h (fun o h' => (o.1 = true → h'.2.2.1 o.2 = 44 ∧ KH.1.2 L [o.2] h' J R) ∧ (o.1 = false → K.1.2 L (S.drop n) h' J R))), fun L S h J R H => by
    obtain ⟨hc, ⟨⟨b, v⟩, h'⟩, h1, h2, h3⟩ := H
    refine pIf hc ?_
    unfold o_callC
    rw [h1]
    cases b with
    | false => exact K.2 _ _ _ _ _ (h3 rfl)
    | true => exact pIf (h2 rfl).1 (KH.2 _ _ _ _ _ (h2 rfl).2)⟩
section TCC
variable {E : tM} {pc : Nat} {lt : List (Nat × Nat)} {ts : List Nat} {K KH : tX}
theorem ms_callC (ct : Nat) {q : vw_C} {idx : Nat} {y : MethodName} {bytes : ByteArray} {maxL : Nat} (ks : List Nat) {fr lo n : Nat} {F : tFn} (hM : tMX (tM.D E) (tM.b0 E) y (ws_ y bytes maxL none) none (2 :: ks) fr lo F) (hc9 : ct < 3000) (hc : xcl ct = some q) (q1 : Cond.methodLink (tM.own E) idx y ∈ lw_all) (q2 : Cond.instanceMethod y ∈ lw_all) (q3 : Cond.selects q.1 y y ∈ lw_all) (q4 : Cond.initialized y.cls ∈ lw_all) (q5 : Cond.code y bytes maxL none ∈ lw_all) (hy : hyOK y) (hn : (parseMethodDescriptor y.desc).map (fun d => d.parameters.length) = some ks.length)
    (hfr : fr + 1 ≤ tM.fr E) (hlo : 0 + (maxL + 11) + lo ≤ tM.lo E) {f0 t0 hp ci : Nat} (hh : tM.hh E = [(f0, t0, hp, ci)]) (hcov : (decide (f0 ≤ pc) && decide (pc < t0)) = true) (hci : ci ≠ 0) (hcl : Cond.classLink (tM.own E) ci RJ3 ∈ lw_all) (hks : (2 :: ks).length = n) (hts : (2 :: ks).reverse = ts) (hd : decode (tM.cc E) pc = .ok (.invokevirtual idx, 3)) (hK : tSx E (pc + 3) lt [] K) (hKH : tSx E hp lt [2] KH) : tSx E pc lt ts (mv_callC ct F n K KH) := by
  intro L S h r hB hS hL
  have hB : (if h.2.2.1 (S.getD (n - 1) 0) = ct then o_callC F n K.1.1 KH.1.1 L S h else none) = some r := hB
  split at hB
  · rename_i hG
    subst hts
    have hlen : n = S.length := by rw [hS, List.length_reverse, hks]
    have hla : (S.take n).reverse.length = (2 :: ks).length := by rw [List.length_reverse, List.length_take, hks]; omega
    have hdr : S.drop n = [] := by rw [hlen]; simp
    have hSe : (S.take n).reverse.reverse ++ [] = S := by rw [List.reverse_reverse, List.append_nil, hlen, List.take_length]
    unfold o_callC at hB
    cases hF : F (S.take n).reverse h with
    | none => rw [hF] at hB; cases hB
    | some x =>
      obtain ⟨⟨b, v⟩, h'⟩ := x
      rw [hF] at hB
      have hmono := (hM launch0 (S.take n).reverse h (b, v) h' hF hla).1
      have hgo : ∀ {p : Program} {l : Launch} {e : Env} {R : Room} {s : State} {m : MethodId} {args : Array Value} {below : List Frame} {meth : Method} {c : Code}, tC E l p R s m args meth c → ∀ (ls : Array Slot) (H : Heap) (locs : List Loc) (cells slots : Nat) (T : State), tR (tM.D E) (tM.b0 E) h H → T.heap = H → Stand p l e R s m args below meth c T locs cells slots → tGo p l e R s m args below meth c T locs cells slots (F0 m pc ls ((tSt (2 :: ks) (S.take n).reverse).reverse ++ tSt [] [])) (tSt [] []) y (tSt (2 :: ks) (S.take n).reverse).toArray := by
        intro p l e R s m args below meth c hC ls H locs cells slots T hR hT X
        obtain ⟨x, as', hx0, hl', hx⟩ := t_hd0 ks n (S.take n).reverse [] hla hks
        rw [hSe] at hx
        rw [hx] at hG
        obtain ⟨b, cell, rfl, c1, c2, c3⟩ := t_recv hR hC.2.2.2.2.2.1 hc9 hc hG
        rw [hx0, tSt_cons, tE_ptr]
        exact goV X hC.1 hC.2.2.2.1 hC.2.2.2.2.1 q1 q2 q3 (hC.2.2.2.2.1 _ q5) hy hn (by rw [hT]; exact c1) c2 c3 rfl (tSt_len ks as' hl') (by simp) (by rw [hC.2.1]; exact hd)
      cases b with
      | false =>
        have hB : K.1.1 L (S.drop n) h' = some r := hB
        rw [hdr] at hB
        obtain ⟨m1, w1⟩ := hK L [] h' r hB rfl hL
        refine ⟨⟨Int.le_trans hmono.1 m1.1, Int.le_trans hmono.2 m1.2.1, m1.2.2⟩, fun p l e R s m args below meth c n0 u0 fin hC a1 a2 a3 a4 a5 a6 a7 a8 => ?_⟩
        have hw := tCallWC (lt := lt) (L := L) (Sr := []) (tsr := []) hM q5 q4 hfr hlo hh hcov hci hcl hF hla rfl hC a1 a2 (Int.le_trans m1.1 a3) (Int.le_trans m1.2.1 a4) a5 a6 hd (hgo hC) (fun z => by cases z) (fun z => by cases z)
          (fun _ => w1 p l e R s m args below meth c n0 u0 fin hC (Int.le_trans a1 hmono.1) (Int.le_trans a2 hmono.2) a3 a4 a5 a6 a7 a8)
        rw [hSe, List.append_nil] at hw
        exact hw
      | true =>
        have hB : (if h'.2.2.1 v = 44 then KH.1.1 L [v] h' else none) = some r := hB
        split at hB
        · rename_i hv
          obtain ⟨m1, w1⟩ := hKH L [v] h' r hB rfl hL
          refine ⟨⟨Int.le_trans hmono.1 m1.1, Int.le_trans hmono.2 m1.2.1, m1.2.2⟩, fun p l e R s m args below meth c n0 u0 fin hC a1 a2 a3 a4 a5 a6 a7 a8 => ?_⟩
          have hw := tCallWC (lt := lt) (L := L) (Sr := []) (tsr := []) hM q5 q4 hfr hlo hh hcov hci hcl hF hla rfl hC a1 a2 (Int.le_trans m1.1 a3) (Int.le_trans m1.2.1 a4) a5 a6 hd (hgo hC) (fun _ => hv)
            (fun _ => w1 p l e R s m args below meth c n0 u0 fin hC (Int.le_trans a1 hmono.1) (Int.le_trans a2 hmono.2) a3 a4 a5 a6 a7 a8) (fun z => by cases z)
          rw [hSe, List.append_nil] at hw
          exact hw
        · cases hB
  · cases hB
end TCC
theorem tMX.ofH {D : tD} {b0 : Nat} {y : MethodName} {bytes : ByteArray} {maxL : Nat} {rt : Option FieldType} {ks : List Nat} {fr lo : Nat} {te : Nat → List (Nat × Nat) × List Nat} {ini : Bool} {hh : List (Nat × Nat × Nat × Nat)} {Bk : Nat → tB} (n : Nat) (hy : plainFor y = true) (hini : ini = true → y.name = "<init>") (hk : (ks.map kCat).sum ≤ maxL) (h0 : (te 0).2 = []) (hl : (te 0).1.all (fun q => tIn (ltA 0 ks) q.1 q.2) = true)
    (hs : ∀ pc, tSd (bytes, maxL, y.cls, te, D, b0, fr, lo, rt, ini, hh) pc (te pc).1 (te pc).2 (Bk pc)) : tMX D b0 y (wsW_ y bytes maxL rt hh) rt ks fr lo (tFun ks maxL Bk n) := by
  intro l as h o h' hF hla
  have hlen : (tLoc ks as ++ List.replicate (maxL - (tLoc ks as).length) 0).length = maxL := by
    rw [List.length_append, List.length_replicate, tLoc_len ks as hla]
    omega
  obtain ⟨hmono, hw⟩ := tRun_sound (E := (bytes, maxL, y.cls, te, D, b0, fr, lo, rt, ini, hh)) hs n 0 _ [] h (o, h') hF (by show 0 = (te 0).2.length; rw [h0]; rfl) hlen
  refine ⟨hmono, fun hlst => ?_⟩
  refine MetFree.of_bodySF (code := bytes) (maxLocals := maxL) (ret := rt) hy ?_ ?_
  · intro args s m hpre hn
    obtain ⟨m9, meth, c, hn9, h1, h2, h3, h4, -, h5, h6, -⟩ := Cond.codeWith_spec (atoms_spec (ws := wsW_ y bytes maxL rt hh) hpre _ List.mem_cons_self)
    cases hn.symm.trans hn9
    exact ⟨meth, c, h1, h2, h3, h4, h5, h6⟩
  · intro p e s m args below meth c s₁ B hml hP _
    obtain ⟨rfl, hR, hK, hKw, hb, hZs⟩ := hP
    have hat := atoms_spec (ws := wsW_ y bytes maxL rt hh) B.pre
    have hts : ∀ w ∈ lw_all, w.before _ s = true := fun w h => hat w (List.mem_cons_of_mem _ h)
    have hC : tC (bytes, maxL, y.cls, te, D, b0, fr, lo, rt, ini, hh) l p (tRm fr lo h h') s m (tSt ks as).toArray meth c :=
      ⟨B.exec, B.bytes, hml, findClass_of_methodNamed B.named, hts, hK, hb, Nat.le_refl _, Nat.le_refl _, B.notSynchronized, B.returns, fun z => by rw [(name_of_methodNamed B.named B.method).1]; exact hini z, (by
        obtain ⟨m9, meth9, c9, hn9, h1, h2, h3, h4, hE9, h5, h6, -⟩ := Cond.codeWith_spec (hat _ List.mem_cons_self)
        cases B.named.symm.trans hn9
        cases B.method.symm.trans h1
        cases (Stand.of_body B).code.symm.trans h2
        exact hE9), hKw, hZs, hlst⟩
    have hw0 := hw p l e (tRm fr lo h h') s m (tSt ks as).toArray below meth c h.2.2.2.1 h.2.2.2.2 hC (Int.le_refl _) (Int.le_refl _) rfl rfl
    have hh0 : s₁.heap = s.heap := by rw [B.state]; rfl
    have hent := lv_entry (tSt ks as) (n := maxL) (by rw [sl_len ks as hla]; exact hk)
    have hw1 := hw0 _ s.heap [] ⟨hent.1, hent.2.1, fun q hq => by
      obtain ⟨q', hq', rfl⟩ := List.mem_map.mp hq
      exact hent.2.2 _ (tEnt ks as [] _ q' hla (tIn_mem (List.all_eq_true.mp hl q' hq')))⟩ hR va_S.rf
    have hst : tSt (tM.te (bytes, maxL, y.cls, te, D, b0, fr, lo, rt, ini, hh) 0).2 [] = [] := by
      show tSt (te 0).2 [] = []
      rw [h0]
      rfl
    rw [hst, ← lg_entry_eq, Int.sub_self, Int.sub_self] at hw1
    obtain ⟨t, a1, b1⟩ := hw1 s₁ hh0 (Stand.of_body B)
    obtain ⟨c1, c2, c3, c4, c5, c6⟩ := b1
    exact ⟨t, _, a1, c1, c2, rfl, c3, c4, c5, c6⟩
