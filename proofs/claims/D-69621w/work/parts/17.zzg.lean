/-! T, more: calls of methods with handlers; fields of nest mates -/
section TGW
variable {p : Program} {l : Launch} {e : Env} {R : Room} {s : State} {m : MethodId} {args : Array Value} {below : List Frame} {meth : Method} {c : Code} {T : State} {locs : List Loc} {cells slots : Nat}
theorem goVW (X : Stand p l e R s m args below meth c T locs cells slots) (hexec : p.tables.exec = Jvm.exec) {own C : String} {index n : Nat} {y : MethodName} {bytes : ByteArray} {maxL : Nat} {ret : Option FieldType} {hh9 : List (Nat × Nat × Nat × Nat)} (hown : s.vm.findClass own = some m.cls) (hts : ∀ w ∈ lw_all, w.before args s = true)
    (hlink : Cond.methodLink own index y ∈ lw_all) (hinst : Cond.instanceMethod y ∈ lw_all) (hsel : Cond.selects C y y ∈ lw_all) (hcode : (Cond.codeWith y bytes maxL ret hh9).before args s = true) (hy : hyOK y) (hn : (parseMethodDescriptor y.desc).map (fun d => d.parameters.length) = some n)
    {b : Addr} {cellB : Cell} (hcell : T.heap[b]? = some cellB) (hobj : cellB.vm.isStatics = false) (hcls : s.vm.findClass C = some cellB.cls)
    {g : JFrame} (hg : g.method = m) {argsL rest : List Value} (hl : argsL.length = n) (hstack : g.stack = argsL.reverse ++ .ref b :: rest) (hdg : decode c.code g.pc = .ok (.invokevirtual index, 3)) :
    tGo p l e R s m args below meth c T locs cells slots g rest y (Value.ref b :: argsL).toArray := by
  obtain ⟨mk, methM, hnamed, hmethM, hstM, habM⟩ := Cond.instanceMethod_spec (hts _ hinst)
  obtain ⟨m9, methM', cM, hn9, hmethM', -, -, -, -, -, -, hsigM⟩ := Cond.codeWith_spec hcode
  cases hnamed.symm.trans hn9
  cases hmethM.symm.trans hmethM'
  obtain ⟨c2, r2, m2, q1, q2, q3, q4, kP, hkP, hkPi⟩ := Cond.selects_spec (hts _ hsel)
  cases hcls.symm.trans q1
  cases (State.methodFound?_of_named hnamed hy).symm.trans q2
  cases hnamed.symm.trans q3
  have hselP : selectMethod e.platform s.vm cellB.cls mk = .method mk := by rw [Launch.admits_selectMethod X.admits]; exact q4
  obtain ⟨vm₁, X₁, hstep₁⟩ := X.invokevirtual hexec hown (hts _ hlink) hnamed hmethM hstM hkP hkPi hy (a := b) (cell := cellB) hcell
    (fun z h => by rw [h] at hobj; cases hobj) hselP hmethM habM hkP hkPi (g := g) hg (argsL := argsL) (rest := rest) (t_plen hn hl _ hsigM) hstack hdg
  exact ⟨vm₁, mk, X₁.warmed, X₁, hnamed, fun target h => hstep₁ _ fun acts => by rw [doInvoke_state]; exact h⟩
end TGW
section TCWW
variable {E : tM} {pc : Nat} {lt : List (Nat × Nat)}
theorem tCallWW {y : MethodName} {bytes : ByteArray} {maxL : Nat} {hh9 : List (Nat × Nat × Nat × Nat)} {rt : Option FieldType} {ks tsr : List Nat} {fr lo : Nat} {F : tFn} (hM : tMX (tM.D E) (tM.b0 E) y (wsW_ y bytes maxL rt hh9) rt ks fr lo F) (hcode : Cond.codeWith y bytes maxL rt hh9 ∈ lw_all) (hini : Cond.initialized y.cls ∈ lw_all)
    (hfr : fr + 1 ≤ tM.fr E) (hlo : (tsr.map kCat).sum + (maxL + 11) + lo ≤ tM.lo E) (hh : (tM.hh E).all (fun q => !(decide (q.1 ≤ pc) && decide (pc < q.2.1))) = true)
    {as Sr L : List Int} {h h' : tH} {o : Bool × Int} (hF : F as h = some (o, h')) (hla : as.length = ks.length) (hlr : Sr.length = tsr.length)
    {p : Program} {l : Launch} {e : Env} {R : Room} {s : State} {m : MethodId} {args : Array Value} {below : List Frame} {meth : Method} {c : Code} {n0 u0 : Int} {fin : (Bool × Int) × tH} (hC : tC E l p R s m args meth c)
    (a1 : n0 ≤ h.2.2.2.1) (a2 : u0 ≤ h.2.2.2.2) (a3 : h'.2.2.2.1 ≤ fin.2.2.2.2.1) (a4 : h'.2.2.2.2 ≤ fin.2.2.2.2.2) (a5 : R.cells = (fin.2.2.2.2.1 - n0).toNat) (a6 : R.slots = (fin.2.2.2.2.2 - u0).toNat)
    {ig : Instr} (hd : decode (tM.cc E) pc = .ok (ig, 3))
    (hgo : ∀ (ls : Array Slot) (H : Heap) (locs : List Loc) (cells slots : Nat) (T : State), tR (tM.D E) (tM.b0 E) h H → T.heap = H → Stand p l e R s m args below meth c T locs cells slots → tGo p l e R s m args below meth c T locs cells slots (F0 m pc ls ((tSt ks as).reverse ++ tSt tsr Sr)) (tSt tsr Sr) y (tSt ks as).toArray)
    (hT : o.1 = true → fin = (o, h')) (hW : o.1 = false → tW E p l e R s m args below meth c n0 u0 fin (pc + 3) lt ((rt.map kdF).toList ++ tsr) L ((rt.map fun _ => o.2).toList ++ Sr) h') :
    tW E p l e R s m args below meth c n0 u0 fin pc lt (ks.reverse ++ tsr) L (as.reverse ++ Sr) h := by
  intro ls H locs g1 g2 g3
  rw [tSt_app _ _ _ _ (by simp [hla]), tSt_rev _ _ hla]
  intro T hT0 X
  obtain ⟨vm₁, mk, hw1, X₁, hnamed, hgo1⟩ := hgo ls H locs _ _ T g2 hT0 X
  have hmono := (hM l as h o h' hF hla).1
  have hts := hC.2.2.2.2.1
  have hbig : ∀ w ∈ wsW_ y bytes maxL rt hh9, w ∈ lw_all := fun w hw => by
    rcases List.mem_cons.mp hw with z | z
    · rw [z]; exact hcode
    · exact z
  have hwords : ∀ w ∈ lw_all, w.before (tSt ks as).toArray (T.setVm vm₁) = true := fun w hw => word_at hw1 (lw_self w hw).2 (hts w hw)
  have hnT : (T.setVm vm₁).methodNamed? y = some mk := X₁.named hnamed
  obtain ⟨m9, methY, cY, hn9, hmY, hcY, -, hlY, -⟩ := Cond.codeWith_spec (hwords _ hcode)
  cases hnT.symm.trans hn9
  have hheap1 : (T.setVm vm₁).heap = H := hT0
  obtain ⟨T', Ls, X', hLs, hR', hlow, hsz, hsteps⟩ := tBack X₁ (W := (tsr.map kCat).sum) (len := 3) (maxL := maxL) hM hF hla (Nat.le_trans hfr hC.2.2.2.2.2.2.2.1) (Nat.le_trans hlo hC.2.2.2.2.2.2.2.2.1) (by omega) (by omega)
    (fun w hw => hwords w (hbig w hw)) (hwords _ hini) (g := { F0 m pc ls ((tSt ks as).reverse ++ tSt tsr Sr) with stack := tSt tsr Sr }) (ig := ig) (mk := mk) rfl (by rw [hC.2.2.1]; exact g1.1) (by rw [hC.2.1]; exact hd)
    (by
      show 2 * (F0 m pc ls (tSt tsr Sr)).monitorRoom + ((tSt tsr Sr).map fun v => v.category).sum ≤ _
      rw [tSt_cat _ _ hlr]
      simp [JFrame.monitorRoom]) hnT ⟨methY, cY, hmY, hcY, hlY⟩ (by rw [hheap1]; exact g2) (tK.moved hw1.alike hC.2.2.2.2.2.1) (tKw.warm hw1 hC.2.2.2.2.2.2.2.2.2.2.2.2.2.1) (by rw [hheap1]; exact Nat.le_trans hC.2.2.2.2.2.2.1 g3.1) (by rw [hheap1]; exact tZs.go (U := T.setVm vm₁) hw1 g3.2.1 hC.2.2.2.2.2.2.2.2.2.2.2.2.2.2.1) hC.2.2.2.2.2.2.2.2.2.2.2.2.2.2.2
  rw [hheap1] at hlow hsz
  have hS' : va_S (fun q => tM.b0 E ≤ q) s.heap T'.heap (locs ++ Ls) := ⟨Nat.le_trans g3.1 hsz, fun q hq hA => by rw [hlow q (by omega)]; exact g3.2.1 q hq hA, fun q hq => by
    rcases List.mem_append.mp hq with z | z
    · exact g3.2.2 q z
    · exact hLs q z⟩
  rw [tMono_cells a1 hmono.1, tMono_cells a2 hmono.2] at X'
  cases ho : o.1 with
  | false =>
    have hw := hW ho ls T'.heap (locs ++ Ls) g1 hR' hS'
    have hst : tSt ((rt.map kdF).toList ++ tsr) ((rt.map fun _ => o.2).toList ++ Sr) = (rt.map fun t => tE (kdF t) o.2).toList ++ tSt tsr Sr := by
      cases rt with
      | none => rfl
      | some t => rfl
    rw [hst] at hw
    obtain ⟨t, b1, b2⟩ := hw T' rfl X'
    refine ⟨t, hgo1 _ (hsteps.trans ?_), b2⟩
    unfold tAfter
    rw [ho]
    exact b1
  | true =>
    have hfin := hT ho
    subst hfin
    obtain ⟨hsteps2, hrun, hend, hwm, hsame⟩ := X'.leaveThrown (o.2 - 1).toNat (g := { F0 m pc ls ((tSt ks as).reverse ++ tSt tsr Sr) with stack := tSt tsr Sr }) rfl rfl rfl (tHh hC.2.2.2.2.2.2.2.2.2.2.2.2.1 hh) hC.2.2.2.2.2.2.2.2.2.1
    refine ⟨T'.setFrames (.throwing (o.2 - 1).toNat :: below), hgo1 _ (hsteps.trans ?_), hrun, ?_, hR', hwm, fun q hq => ?_, locs ++ Ls, hsame, hS'.2.2⟩
    · unfold tAfter
      rw [ho]
      exact hsteps2
    · have h1 : tO (tM.rt E) o = .threw (o.2 - 1).toNat := by unfold tO; rw [ho]
      rw [h1]
      exact hend
    · show T'.heap[q]? = _
      exact hS'.2.1 q (Nat.lt_of_lt_of_le hq hC.2.2.2.2.2.2.1) (by omega)
end TCWW
section TCBW
variable {E : tM} {pc : Nat} {lt : List (Nat × Nat)} {ts : List Nat} {K : tB}
theorem tCallBW {y : MethodName} {bytes : ByteArray} {maxL : Nat} {hh9 : List (Nat × Nat × Nat × Nat)} {rt : Option FieldType} {ks tsr : List Nat} {fr lo n : Nat} {rv : Bool} {F : tFn} (G : List Int → tH → Prop) {B : tB} (hM : tMX (tM.D E) (tM.b0 E) y (wsW_ y bytes maxL rt hh9) rt ks fr lo F) (hcode : Cond.codeWith y bytes maxL rt hh9 ∈ lw_all) (hini : Cond.initialized y.cls ∈ lw_all)
    (hfr : fr + 1 ≤ tM.fr E) (hlo : (tsr.map kCat).sum + (maxL + 11) + lo ≤ tM.lo E) (hh : (tM.hh E).all (fun q => !(decide (q.1 ≤ pc) && decide (pc < q.2.1))) = true) (hks : ks.length = n) (hrv : rv = rt.isSome) (hts : ks.reverse ++ tsr = ts)
    {ig : Instr} (hd : decode (tM.cc E) pc = .ok (ig, 3))
    (hB0 : ∀ L S h r, B L S h = some r → G S h ∧ o_call F n rv K L S h = some r)
    (hgo : ∀ (as Sr : List Int) (h : tH), as.length = ks.length → G (as.reverse ++ Sr) h → ∀ {p : Program} {l : Launch} {e : Env} {R : Room} {s : State} {m : MethodId} {args : Array Value} {below : List Frame} {meth : Method} {c : Code}, tC E l p R s m args meth c → ∀ (ls : Array Slot) (H : Heap) (locs : List Loc) (cells slots : Nat) (T : State), tR (tM.D E) (tM.b0 E) h H → T.heap = H → Stand p l e R s m args below meth c T locs cells slots → tGo p l e R s m args below meth c T locs cells slots (F0 m pc ls ((tSt ks as).reverse ++ tSt tsr Sr)) (tSt tsr Sr) y (tSt ks as).toArray)
    (hK : tSd E (pc + 3) lt ((rt.map kdF).toList ++ tsr) K) : tSd E pc lt ts B := by
  intro L S h r hB hS hL
  obtain ⟨hG, hB⟩ := hB0 L S h r hB
  obtain ⟨o, h', hF, hr⟩ := o_call_some hB
  subst hts
  have hlen : n ≤ S.length := by rw [hS, List.length_append, List.length_reverse, hks]; omega
  have hla : (S.take n).reverse.length = ks.length := by rw [List.length_reverse, List.length_take, hks]; omega
  have hlr : (S.drop n).length = tsr.length := by rw [List.length_drop, hS, List.length_append, List.length_reverse, hks]; omega
  have hSe : (S.take n).reverse.reverse ++ S.drop n = S := by rw [List.reverse_reverse, List.take_append_drop]
  have hG' : G ((S.take n).reverse.reverse ++ S.drop n) h := by rw [hSe]; exact hG
  have hmono := (hM launch0 (S.take n).reverse h o h' hF hla).1
  rcases hr with ⟨ho, hKe⟩ | ⟨ho, hre⟩
  · have hst : (if rv = true then o.2 :: S.drop n else S.drop n) = (rt.map fun _ => o.2).toList ++ S.drop n := by
      rw [hrv]
      cases rt <;> rfl
    rw [hst] at hKe
    obtain ⟨m1, w1⟩ := hK L _ h' r hKe (by cases rt <;> simp [hlr]) hL
    refine ⟨⟨Int.le_trans hmono.1 m1.1, Int.le_trans hmono.2 m1.2.1, m1.2.2⟩, fun p l e R s m args below meth c n0 u0 fin hC a1 a2 a3 a4 a5 a6 a7 a8 => ?_⟩
    have hw := tCallWW (lt := lt) (L := L) hM hcode hini hfr hlo hh hF hla hlr hC a1 a2 (Int.le_trans m1.1 a3) (Int.le_trans m1.2.1 a4) a5 a6 hd (hgo _ _ h hla hG' hC) (fun z => by rw [ho] at z; cases z)
      (fun _ => w1 p l e R s m args below meth c n0 u0 fin hC (Int.le_trans a1 hmono.1) (Int.le_trans a2 hmono.2) a3 a4 a5 a6 a7 a8)
    rw [hSe] at hw
    exact hw
  · subst hre
    refine ⟨⟨hmono.1, hmono.2, fun pc' L' S' h' hz => by cases hz⟩, fun p l e R s m args below meth c n0 u0 fin hC a1 a2 a3 a4 a5 a6 a7 a8 => ?_⟩
    have hw := tCallWW (l := l) (e := e) (below := below) (lt := lt) (L := L) hM hcode hini hfr hlo hh hF hla hlr hC a1 a2 a3 a4 a5 a6 hd (hgo _ _ h hla hG' hC) (fun _ => a7 _ rfl) (fun z => by rw [ho] at z; cases z)
    rw [hSe] at hw
    exact hw
/-- a receiver of the class ct -/

theorem s_callVW (ct : Nat) {q : vw_C} {idx : Nat} {y : MethodName} {bytes : ByteArray} {maxL : Nat} {hh9 : List (Nat × Nat × Nat × Nat)} {rt : Option FieldType} (ks tsr : List Nat) {fr lo n : Nat} {rv : Bool} {F : tFn} (hM : tMX (tM.D E) (tM.b0 E) y (wsW_ y bytes maxL rt hh9) rt (2 :: ks) fr lo F) (hc9 : ct < 3000) (hc : xcl ct = some q) (q1 : Cond.methodLink (tM.own E) idx y ∈ lw_all) (q2 : Cond.instanceMethod y ∈ lw_all) (q3 : Cond.selects q.1 y y ∈ lw_all) (q4 : Cond.initialized y.cls ∈ lw_all) (q5 : Cond.codeWith y bytes maxL rt hh9 ∈ lw_all) (hy : hyOK y) (hn : (parseMethodDescriptor y.desc).map (fun d => d.parameters.length) = some ks.length)
    (hfr : fr + 1 ≤ tM.fr E) (hlo : (tsr.map kCat).sum + (maxL + 11) + lo ≤ tM.lo E) (hh : (tM.hh E).all (fun q => !(decide (q.1 ≤ pc) && decide (pc < q.2.1))) = true) (hks : (2 :: ks).length = n) (hrv : rv = rt.isSome) (hts : (2 :: ks).reverse ++ tsr = ts) (hd : decode (tM.cc E) pc = .ok (.invokevirtual idx, 3)) (hK : tSd E (pc + 3) lt ((rt.map kdF).toList ++ tsr) K) : tSd E pc lt ts (o_callv ct F n rv K) :=
  tCallBW (tsr := tsr) (G := fun S h => h.2.2.1 (S.getD (n - 1) 0) = ct) hM q5 q4 hfr hlo hh hks hrv hts hd (fun L S h r hB => by
    unfold o_callv at hB
    split at hB
    · exact ⟨‹_›, hB⟩
    · cases hB) (fun as Sr h hla hG p l e R s m args below meth c hC ls H locs cells slots T hR hT X => by
    obtain ⟨x, as', rfl, hl', hx⟩ := t_hd0 ks n as Sr hla hks
    rw [hx] at hG
    obtain ⟨b, cell, rfl, c1, c2, c3⟩ := t_recv hR hC.2.2.2.2.2.1 hc9 hc hG
    rw [tSt_cons, tE_ptr]
    exact goVW X hC.1 hC.2.2.2.1 hC.2.2.2.2.1 q1 q2 q3 (hC.2.2.2.2.1 _ q5) hy hn (by rw [hT]; exact c1) c2 c3 rfl (tSt_len ks as' hl') (by simp) (by rw [hC.2.1]; exact hd)) hK
end TCBW
section TFN
variable {E : tM} {pc : Nat} {lt : List (Nat × Nat)} {ts : List Nat} {K : tB}
theorem s_getfN (c k : Nat) {q : vw_C} {idx : Nat} {ref host : String} (kd : Nat) (hd : decode (tM.cc E) pc = .ok (.getfield idx, 3)) (hc : xcl c = some q) (hc9 : c < 3000) (hk : k < q.2.2) (hq : Cond.fieldLinkNest (tM.own E) idx ref (q.2.1 k).2.1 (q.2.1 k).2.2.1 host ∈ lw_tbl) (hs : ref = (q.2.1 k).1 ∨ Cond.sameField ref (q.2.1 k).1 (q.2.1 k).2.1 (q.2.1 k).2.2.1 ∈ lw_all) (hkd : kdF (xty c k) = kd) (hK : tSd E (pc + 3) lt (kd :: ts) K) : tSd E pc lt (2 :: ts) (o_getf c k K) :=
  hK.step fun L S h r hB hS hL => by
    obtain ⟨p, S', rfl, hp, hB⟩ := o_getf_some hB
    refine ⟨L, _, hB, by simpa using hS, hL, fun pr l e R s m args below meth cd n0 u0 fin hC hW ls H locs h1 h2 h3 => ?_⟩
    obtain ⟨a, rfl, ha, cell, q1, q2, q3, q4⟩ := h2.objO hc9 hp hc
    have hw := hW ls H locs h1 h2 h3
    obtain ⟨hin, hnm, hty⟩ := xcl_ok c q hc
    obtain ⟨hSl, hfc, kC, hkC, hkind⟩ := hC.2.2.2.2.2.1.1 c q hc
    obtain ⟨cf, kf, fi, f, hi, hsl⟩ := hSl k hk
    have hts := hC.2.2.2.2.1
    rw [tSt_cons, tE_ptr]
    refine va_Wgetf hC.1 hC.2.1 hC.2.2.2.1 (va_Nw.use (A := args) rfl (hC.2.2.2.2.2.2.2.2.2.2.2.2.2.1 _ hq rfl)) (t_same (hs.imp id (fun z => hts _ z)) _ hi) (u_facts hfc hkC (u_lays hts hin hk) hi).1 q1 (by rw [q3]; exact fun h => by cases h) (v := tE kd (h.1.1 ((a : Int) + 1) k)) ?_ rfl rfl hd hw
    rw [hsl, q4 k hk]
    show some (tE (kdF (xty c k)) _) = _
    rw [hkd]
end TFN
section TFX
variable {E : tM} {pc : Nat} {lt : List (Nat × Nat)} {ts : List Nat} {K : tX}
theorem ms_getfN (c k : Nat) {q : vw_C} {idx : Nat} {ref host : String} (kd : Nat) (hd : decode (tM.cc E) pc = .ok (.getfield idx, 3)) (hc : xcl c = some q) (hc9 : c < 3000) (hk : k < q.2.2) (hq : Cond.fieldLinkNest (tM.own E) idx ref (q.2.1 k).2.1 (q.2.1 k).2.2.1 host ∈ lw_tbl) (hs : ref = (q.2.1 k).1 ∨ Cond.sameField ref (q.2.1 k).1 (q.2.1 k).2.1 (q.2.1 k).2.2.1 ∈ lw_all) (hkd : kdF (xty c k) = kd) (hK : tSx E (pc + 3) lt (kd :: ts) K) : tSx E pc lt (2 :: ts) (mx_getf c k K) := s_getfN c k kd hd hc hc9 hk hq hs hkd hK
theorem ms_callVWN (ct : Nat) {q : vw_C} {idx : Nat} {y : MethodName} {bytes : ByteArray} {maxL : Nat} {hh9 : List (Nat × Nat × Nat × Nat)} {rt : Option FieldType} (ks tsr : List Nat) {fr lo n : Nat} {F : tFn} (hM : tMX (tM.D E) (tM.b0 E) y (wsW_ y bytes maxL rt hh9) rt (2 :: ks) fr lo F) (hc9 : ct < 3000) (hc : xcl ct = some q) (q1 : Cond.methodLink (tM.own E) idx y ∈ lw_all) (q2 : Cond.instanceMethod y ∈ lw_all) (q3 : Cond.selects q.1 y y ∈ lw_all) (q4 : Cond.initialized y.cls ∈ lw_all) (q5 : Cond.codeWith y bytes maxL rt hh9 ∈ lw_all) (hy : hyOK y) (hn : (parseMethodDescriptor y.desc).map (fun d => d.parameters.length) = some ks.length)
    (hfr : fr + 1 ≤ tM.fr E) (hlo : (tsr.map kCat).sum + (maxL + 11) + lo ≤ tM.lo E) (hh : (tM.hh E).all (fun q => !(decide (q.1 ≤ pc) && decide (pc < q.2.1))) = true) (hks : (2 :: ks).length = n) (hrv : true = rt.isSome) (hts : (2 :: ks).reverse ++ tsr = ts) (hd : decode (tM.cc E) pc = .ok (.invokevirtual idx, 3)) (hK : tSx E (pc + 3) lt ((rt.map kdF).toList ++ tsr) K) : tSx E pc lt ts (mv_callN ct F n K) := s_callVW ct ks tsr hM hc9 hc q1 q2 q3 q4 q5 hy hn hfr hlo hh hks hrv hts hd hK
end TFX
