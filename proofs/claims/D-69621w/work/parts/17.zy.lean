/-! T, more: inherited methods, wide constants, switches -/
section TGOU
variable {p : Program} {l : Launch} {e : Env} {R : Room} {s : State} {m : MethodId} {args : Array Value} {below : List Frame} {meth : Method} {c : Code} {T : State} {locs : List Loc} {cells slots : Nat}
theorem goVU (X : Stand p l e R s m args below meth c T locs cells slots) (hexec : p.tables.exec = Jvm.exec) {own C owner : String} {index n : Nat} {x y : MethodName} {bytes : ByteArray} {maxL : Nat} {ret : Option FieldType} (hown : s.vm.findClass own = some m.cls) (hts : ∀ w ∈ lw_all, w.before args s = true)
    (hlink : Cond.methodLink own index x ∈ lw_all) (hsame : Cond.sameMethod x.cls owner x.name x.desc ∈ lw_all) (hyx : y = ⟨owner, x.name, x.desc⟩) (hinst : Cond.instanceMethod y ∈ lw_all) (hsel : Cond.selects C x y ∈ lw_all) (hcode : (Cond.code y bytes maxL ret).before args s = true) (hy : owner ≠ "java/lang/invoke/MethodHandle" ∧ owner ≠ "java/lang/invoke/VarHandle") (hn : (parseMethodDescriptor y.desc).map (fun d => d.parameters.length) = some n)
    {b : Addr} {cellB : Cell} (hcell : T.heap[b]? = some cellB) (hobj : cellB.vm.isStatics = false) (hcls : s.vm.findClass C = some cellB.cls)
    {g : JFrame} (hg : g.method = m) {argsL rest : List Value} (hl : argsL.length = n) (hstack : g.stack = argsL.reverse ++ .ref b :: rest) (hdg : decode c.code g.pc = .ok (.invokevirtual index, 3)) :
    tGo p l e R s m args below meth c T locs cells slots g rest y (Value.ref b :: argsL).toArray := by
  have hd0 : va_Decl s ⟨owner, x.name, x.desc⟩ := by rw [← hyx]; exact va_Decl.of (hts _ hinst) hcode
  obtain ⟨r0, r, hn0, hrm, hstR, hsigR⟩ := hd0
  obtain ⟨cn, ck, r1, hcn, hck, hni, hf, hn1⟩ := Cond.sameMethod_found (hts _ hsame)
  cases hn0.symm.trans hn1
  obtain ⟨mk, methM, hnamed, hmethM, -, habM⟩ := Cond.instanceMethod_spec (hts _ hinst)
  obtain ⟨c2, r2, m2, q1, q2, q3, q4, kP, hkP, hkPi⟩ := Cond.selects_spec (hts _ hsel)
  cases hcls.symm.trans q1
  cases hf.symm.trans q2
  cases hnamed.symm.trans q3
  have hselP : selectMethod e.platform s.vm cellB.cls r0 = .method mk := by rw [Launch.admits_selectMethod X.admits]; exact q4
  have hdesc : y.desc = x.desc := by rw [hyx]
  obtain ⟨vm₁, X₁, hstep₁⟩ := X.invokevirtualUp hexec hown (hts _ hlink) (hts _ hsame) hy hn0 hrm hstR (a := b) (cell := cellB) hcell
    (fun z h => by rw [h] at hobj; cases hobj) hselP hmethM habM hkP hkPi (g := g) hg (argsL := argsL) (rest := rest) (t_plen (y := y) hn hl _ (by rw [hdesc]; exact hsigR)) hstack hdg
  exact ⟨vm₁, mk, X₁.warmed, X₁, hnamed, fun target h => hstep₁ _ fun acts => by rw [doInvoke_state]; exact h⟩
end TGOU
section TCU
variable {E : tM} {pc : Nat} {lt : List (Nat × Nat)} {ts : List Nat} {K : tB}
theorem s_callVU (ct : Nat) {q : vw_C} {idx : Nat} {owner : String} {x y : MethodName} {bytes : ByteArray} {maxL : Nat} {rt : Option FieldType} (ks tsr : List Nat) {fr lo n : Nat} {rv : Bool} {F : tFn} (hM : tMX (tM.D E) (tM.b0 E) y (ws_ y bytes maxL rt) rt (2 :: ks) fr lo F) (hc9 : ct < 3000) (hc : xcl ct = some q) (q1 : Cond.methodLink (tM.own E) idx x ∈ lw_all) (q1s : Cond.sameMethod x.cls owner x.name x.desc ∈ lw_all) (hyx : y = ⟨owner, x.name, x.desc⟩) (q2 : Cond.instanceMethod y ∈ lw_all) (q3 : Cond.selects q.1 x y ∈ lw_all) (q4 : Cond.initialized y.cls ∈ lw_all) (q5 : Cond.code y bytes maxL rt ∈ lw_all) (hy : hyOK y) (hn : (parseMethodDescriptor y.desc).map (fun d => d.parameters.length) = some ks.length)
    (hfr : fr + 1 ≤ tM.fr E) (hlo : (tsr.map kCat).sum + (maxL + 11) + lo ≤ tM.lo E) (hh : (tM.hh E).all (fun q => !(decide (q.1 ≤ pc) && decide (pc < q.2.1))) = true) (hks : (2 :: ks).length = n) (hrv : rv = rt.isSome) (hts : (2 :: ks).reverse ++ tsr = ts) (hd : decode (tM.cc E) pc = .ok (.invokevirtual idx, 3)) (hK : tSd E (pc + 3) lt ((rt.map kdF).toList ++ tsr) K) : tSd E pc lt ts (o_callv ct F n rv K) :=
  tCallB (tsr := tsr) (G := fun S h => h.2.2.1 (S.getD (n - 1) 0) = ct) hM q5 q4 hfr hlo hh hks hrv hts hd (fun L S h r hB => by
    unfold o_callv at hB
    split at hB
    · exact ⟨‹_›, hB⟩
    · cases hB) (fun as Sr h hla hG p l e R s m args below meth c hC ls H locs cells slots T hR hT X => by
    obtain ⟨z, as', rfl, hl', hx⟩ := t_hd0 ks n as Sr hla hks
    rw [hx] at hG
    obtain ⟨b, cell, rfl, c1, c2, c3⟩ := t_recv hR hC.2.2.2.2.2.1 hc9 hc hG
    rw [tSt_cons, tE_ptr]
    exact goVU X hC.1 hC.2.2.2.1 hC.2.2.2.2.1 q1 q1s hyx q2 q3 (hC.2.2.2.2.1 _ q5) (by have := hy; rw [hyx] at this; exact this) hn (by rw [hT]; exact c1) c2 c3 rfl (tSt_len ks as' hl') (by simp) (by rw [hC.2.1]; exact hd)) hK
theorem s_ldcw {i : Nat} {v : Int32} {x : Int} (hd : decode (tM.cc E) pc = .ok (.ldc_w i, 3)) (hq : Cond.constant (tM.own E) i v ∈ lw_all) (hx : v = Int32.ofInt x) (hK : tSd E (pc + 3) lt (0 :: ts) K) : tSd E pc lt ts (o_push x K) :=
  hK.step fun L S h r hB hS hL => ⟨L, x :: S, hB, by simp [hS], hL, fun p l e R s m args below meth c n0 u0 fin hC hW ls H locs h1 h2 h3 => lv_ldcw hC.1 hC.2.1 hC.2.2.2.1 (hC.2.2.2.2.1 _ hq) hd (by subst hx; exact hW ls H locs h1 h2 h3)⟩
/-- a switch: by the number on top -/
def o_sw (f : Int → tB) : tB := fun L S h => match S with
  | x :: S' => if i32 x then f x L S' h else none
  | _ => none
theorem tSd.many {B : tB} (hf : ∀ (L S : List Int) (h : tH) (r : tN), B L S h = some r → S.length = ts.length → L.length = tM.nL E →
      ∃ (pc1 : Nat) (ts1 : List Nat) (K1 : tB) (S1 : List Int), tSd E pc1 lt ts1 K1 ∧ K1 L S1 h = some r ∧ S1.length = ts1.length ∧
        ∀ (p : Program) (l : Launch) (e : Env) (R : Room) (s : State) (m : MethodId) (args : Array Value) (below : List Frame) (meth : Method) (c : Code) (n0 u0 : Int) (fin : (Bool × Int) × tH), tC E l p R s m args meth c →
          tW E p l e R s m args below meth c n0 u0 fin pc1 lt ts1 L S1 h → tW E p l e R s m args below meth c n0 u0 fin pc lt ts L S h) : tSd E pc lt ts B := by
  intro L S h r hB hS hL
  obtain ⟨pc1, ts1, K1, S1, hK, k1, k2, k4⟩ := hf L S h r hB hS hL
  obtain ⟨m1, w1⟩ := hK L S1 h r k1 k2 hL
  refine ⟨m1, fun p l e R s m args below meth c n0 u0 fin hC a1 a2 a3 a4 a5 a6 a7 a8 => ?_⟩
  exact k4 p l e R s m args below meth c n0 u0 fin hC (w1 p l e R s m args below meth c n0 u0 fin hC a1 a2 a3 a4 a5 a6 a7 a8)
theorem s_tsw {d lo hi : Int} {offs : Array Int} {len : Nat} {f : Int → tB} (hd : decode (tM.cc E) pc = .ok (.tableswitch d lo hi offs, len))
    (hT : ∀ x : Int, i32 x → ∃ tgt : Nat, (((x < lo ∨ hi < x) ∧ (pc : Int) + d = (tgt : Int)) ∨ (¬ x < lo ∧ ¬ hi < x ∧ ∃ off, offs[(x - lo).toNat]? = some off ∧ (pc : Int) + off = (tgt : Int))) ∧ tSd E tgt lt ts (f x)) : tSd E pc lt (0 :: ts) (o_sw f) :=
  tSd.many fun L S h r hB hS hL => by
    match S, hB, hS with
    | x :: S', hB, hS =>
      unfold o_sw at hB
      simp only at hB
      split at hB
      · rename_i hx
        obtain ⟨tgt, ht, hK⟩ := hT x hx
        refine ⟨tgt, ts, f x, S', hK, hB, by simpa using hS, fun p l e R s m args below meth c n0 u0 fin hC hW ls H locs h1 h2 h3 => ?_⟩
        have e1 : (Int32.ofInt x).toInt = x := t32 hx
        rw [tSt_cons, tE_0]
        rcases ht with ⟨hout, ht⟩ | ⟨hlo, hhi, off, ho, ht⟩
        · exact lv_tableOut hC.1 hC.2.1 hd (by rw [e1]; exact hout) ht (hW ls H locs h1 h2 h3)
        · exact lv_tableIn hC.1 hC.2.1 hd (by rw [e1]; exact hlo) (by rw [e1]; exact hhi) (by rw [e1]; exact ho) ht (hW ls H locs h1 h2 h3)
      · cases hB
theorem s_lsw {d : Int} {ps : Array (Int × Int)} {len : Nat} {f : Int → tB} (hd : decode (tM.cc E) pc = .ok (.lookupswitch d ps, len)) (hp : (ps.toList.zip (ps.toList.drop 1)).all (fun (a, next) => a.1 < next.1) = true)
    (hT : ∀ x : Int, i32 x → ∃ (tgt : Nat) (off : Int), Op.lookupswitch.offset ps.toList d x = off ∧ (pc : Int) + off = (tgt : Int) ∧ tSd E tgt lt ts (f x)) : tSd E pc lt (0 :: ts) (o_sw f) :=
  tSd.many fun L S h r hB hS hL => by
    match S, hB, hS with
    | x :: S', hB, hS =>
      unfold o_sw at hB
      simp only at hB
      split at hB
      · rename_i hx
        obtain ⟨tgt, off, ho, ht, hK⟩ := hT x hx
        refine ⟨tgt, ts, f x, S', hK, hB, by simpa using hS, fun p l e R s m args below meth c n0 u0 fin hC hW ls H locs h1 h2 h3 => ?_⟩
        have e1 : (Int32.ofInt x).toInt = x := t32 hx
        rw [tSt_cons, tE_0]
        exact lv_lookup hC.1 hC.2.1 hd hp (by rw [e1]; exact ho) ht (hW ls H locs h1 h2 h3)
      · cases hB
end TCU
section SMX
variable {E : tM} {pc : Nat} {lt : List (Nat × Nat)} {ts : List Nat} {K : tX}
theorem ms_callVUN (ct : Nat) {q : vw_C} {idx : Nat} {owner : String} {x y : MethodName} {bytes : ByteArray} {maxL : Nat} {rt : Option FieldType} (ks tsr : List Nat) {fr lo n : Nat} {F : tFn} (hM : tMX (tM.D E) (tM.b0 E) y (ws_ y bytes maxL rt) rt (2 :: ks) fr lo F) (hc9 : ct < 3000) (hc : xcl ct = some q) (q1 : Cond.methodLink (tM.own E) idx x ∈ lw_all) (q1s : Cond.sameMethod x.cls owner x.name x.desc ∈ lw_all) (hyx : y = ⟨owner, x.name, x.desc⟩) (q2 : Cond.instanceMethod y ∈ lw_all) (q3 : Cond.selects q.1 x y ∈ lw_all) (q4 : Cond.initialized y.cls ∈ lw_all) (q5 : Cond.code y bytes maxL rt ∈ lw_all) (hy : hyOK y) (hn : (parseMethodDescriptor y.desc).map (fun d => d.parameters.length) = some ks.length) (hfr : fr + 1 ≤ tM.fr E) (hlo : (tsr.map kCat).sum + (maxL + 11) + lo ≤ tM.lo E) (hh : (tM.hh E).all (fun q => !(decide (q.1 ≤ pc) && decide (pc < q.2.1))) = true) (hks : (2 :: ks).length = n) (hrv : true = rt.isSome) (hts : (2 :: ks).reverse ++ tsr = ts) (hd : decode (tM.cc E) pc = .ok (.invokevirtual idx, 3)) (hK : tSx E (pc + 3) lt ((rt.map kdF).toList ++ tsr) K) : tSx E pc lt ts (mv_callN ct F n K) := s_callVU ct ks tsr hM hc9 hc q1 q1s hyx q2 q3 q4 q5 hy hn hfr hlo hh hks hrv hts hd hK
theorem ms_callVUNv (ct : Nat) {q : vw_C} {idx : Nat} {owner : String} {x y : MethodName} {bytes : ByteArray} {maxL : Nat} {rt : Option FieldType} (ks tsr : List Nat) {fr lo n : Nat} {F : tFn} (hM : tMX (tM.D E) (tM.b0 E) y (ws_ y bytes maxL rt) rt (2 :: ks) fr lo F) (hc9 : ct < 3000) (hc : xcl ct = some q) (q1 : Cond.methodLink (tM.own E) idx x ∈ lw_all) (q1s : Cond.sameMethod x.cls owner x.name x.desc ∈ lw_all) (hyx : y = ⟨owner, x.name, x.desc⟩) (q2 : Cond.instanceMethod y ∈ lw_all) (q3 : Cond.selects q.1 x y ∈ lw_all) (q4 : Cond.initialized y.cls ∈ lw_all) (q5 : Cond.code y bytes maxL rt ∈ lw_all) (hy : hyOK y) (hn : (parseMethodDescriptor y.desc).map (fun d => d.parameters.length) = some ks.length) (hfr : fr + 1 ≤ tM.fr E) (hlo : (tsr.map kCat).sum + (maxL + 11) + lo ≤ tM.lo E) (hh : (tM.hh E).all (fun q => !(decide (q.1 ≤ pc) && decide (pc < q.2.1))) = true) (hks : (2 :: ks).length = n) (hrv : false = rt.isSome) (hts : (2 :: ks).reverse ++ tsr = ts) (hd : decode (tM.cc E) pc = .ok (.invokevirtual idx, 3)) (hK : tSx E (pc + 3) lt ((rt.map kdF).toList ++ tsr) K) : tSx E pc lt ts (mv_callNv ct F n K) := s_callVU ct ks tsr hM hc9 hc q1 q1s hyx q2 q3 q4 q5 hy hn hfr hlo hh hks hrv hts hd hK
theorem ms_callVUF (ct : Nat) {q : vw_C} {idx : Nat} {owner : String} {x y : MethodName} {bytes : ByteArray} {maxL : Nat} {rt : Option FieldType} (ks tsr : List Nat) {fr lo n : Nat} {F : tFn} (hM : tMX (tM.D E) (tM.b0 E) y (ws_ y bytes maxL rt) rt (2 :: ks) fr lo F) (hc9 : ct < 3000) (hc : xcl ct = some q) (q1 : Cond.methodLink (tM.own E) idx x ∈ lw_all) (q1s : Cond.sameMethod x.cls owner x.name x.desc ∈ lw_all) (hyx : y = ⟨owner, x.name, x.desc⟩) (q2 : Cond.instanceMethod y ∈ lw_all) (q3 : Cond.selects q.1 x y ∈ lw_all) (q4 : Cond.initialized y.cls ∈ lw_all) (q5 : Cond.code y bytes maxL rt ∈ lw_all) (hy : hyOK y) (hn : (parseMethodDescriptor y.desc).map (fun d => d.parameters.length) = some ks.length) (hfr : fr + 1 ≤ tM.fr E) (hlo : (tsr.map kCat).sum + (maxL + 11) + lo ≤ tM.lo E) (hh : (tM.hh E).all (fun q => !(decide (q.1 ≤ pc) && decide (pc < q.2.1))) = true) (hks : (2 :: ks).length = n) (hrv : true = rt.isSome) (hts : (2 :: ks).reverse ++ tsr = ts) (hd : decode (tM.cc E) pc = .ok (.invokevirtual idx, 3)) (hK : tSx E (pc + 3) lt ((rt.map kdF).toList ++ tsr) K) : tSx E pc lt ts (mv_callF ct F n K) := s_callVU ct ks tsr hM hc9 hc q1 q1s hyx q2 q3 q4 q5 hy hn hfr hlo hh hks hrv hts hd hK
theorem ms_callVUFv (ct : Nat) {q : vw_C} {idx : Nat} {owner : String} {x y : MethodName} {bytes : ByteArray} {maxL : Nat} {rt : Option FieldType} (ks tsr : List Nat) {fr lo n : Nat} {F : tFn} (hM : tMX (tM.D E) (tM.b0 E) y (ws_ y bytes maxL rt) rt (2 :: ks) fr lo F) (hc9 : ct < 3000) (hc : xcl ct = some q) (q1 : Cond.methodLink (tM.own E) idx x ∈ lw_all) (q1s : Cond.sameMethod x.cls owner x.name x.desc ∈ lw_all) (hyx : y = ⟨owner, x.name, x.desc⟩) (q2 : Cond.instanceMethod y ∈ lw_all) (q3 : Cond.selects q.1 x y ∈ lw_all) (q4 : Cond.initialized y.cls ∈ lw_all) (q5 : Cond.code y bytes maxL rt ∈ lw_all) (hy : hyOK y) (hn : (parseMethodDescriptor y.desc).map (fun d => d.parameters.length) = some ks.length) (hfr : fr + 1 ≤ tM.fr E) (hlo : (tsr.map kCat).sum + (maxL + 11) + lo ≤ tM.lo E) (hh : (tM.hh E).all (fun q => !(decide (q.1 ≤ pc) && decide (pc < q.2.1))) = true) (hks : (2 :: ks).length = n) (hrv : false = rt.isSome) (hts : (2 :: ks).reverse ++ tsr = ts) (hd : decode (tM.cc E) pc = .ok (.invokevirtual idx, 3)) (hK : tSx E (pc + 3) lt ((rt.map kdF).toList ++ tsr) K) : tSx E pc lt ts (mv_callFv ct F n K) := s_callVU ct ks tsr hM hc9 hc q1 q1s hyx q2 q3 q4 q5 hy hn hfr hlo hh hks hrv hts hd hK
theorem ms_callVUZ (ct : Nat) {q : vw_C} {idx : Nat} {owner : String} {x y : MethodName} {bytes : ByteArray} {maxL : Nat} {rt : Option FieldType} (ks tsr : List Nat) {fr lo n : Nat} {F : tFn} {fg : List Int → tH → Prop} {fv : List Int → tH → Int} {fh : List Int → tH → tH} {hz : tZ F fg fv fh} (hM : tMX (tM.D E) (tM.b0 E) y (ws_ y bytes maxL rt) rt (2 :: ks) fr lo F) (hc9 : ct < 3000) (hc : xcl ct = some q) (q1 : Cond.methodLink (tM.own E) idx x ∈ lw_all) (q1s : Cond.sameMethod x.cls owner x.name x.desc ∈ lw_all) (hyx : y = ⟨owner, x.name, x.desc⟩) (q2 : Cond.instanceMethod y ∈ lw_all) (q3 : Cond.selects q.1 x y ∈ lw_all) (q4 : Cond.initialized y.cls ∈ lw_all) (q5 : Cond.code y bytes maxL rt ∈ lw_all) (hy : hyOK y) (hn : (parseMethodDescriptor y.desc).map (fun d => d.parameters.length) = some ks.length) (hfr : fr + 1 ≤ tM.fr E) (hlo : (tsr.map kCat).sum + (maxL + 11) + lo ≤ tM.lo E) (hh : (tM.hh E).all (fun q => !(decide (q.1 ≤ pc) && decide (pc < q.2.1))) = true) (hks : (2 :: ks).length = n) (hrv : true = rt.isSome) (hts : (2 :: ks).reverse ++ tsr = ts) (hd : decode (tM.cc E) pc = .ok (.invokevirtual idx, 3)) (hK : tSx E (pc + 3) lt ((rt.map kdF).toList ++ tsr) K) : tSx E pc lt ts (mv_callZ ct F hz n K) := s_callVU ct ks tsr hM hc9 hc q1 q1s hyx q2 q3 q4 q5 hy hn hfr hlo hh hks hrv hts hd hK
theorem ms_callVUZv (ct : Nat) {q : vw_C} {idx : Nat} {owner : String} {x y : MethodName} {bytes : ByteArray} {maxL : Nat} {rt : Option FieldType} (ks tsr : List Nat) {fr lo n : Nat} {F : tFn} {fg : List Int → tH → Prop} {fv : List Int → tH → Int} {fh : List Int → tH → tH} {hz : tZ F fg fv fh} (hM : tMX (tM.D E) (tM.b0 E) y (ws_ y bytes maxL rt) rt (2 :: ks) fr lo F) (hc9 : ct < 3000) (hc : xcl ct = some q) (q1 : Cond.methodLink (tM.own E) idx x ∈ lw_all) (q1s : Cond.sameMethod x.cls owner x.name x.desc ∈ lw_all) (hyx : y = ⟨owner, x.name, x.desc⟩) (q2 : Cond.instanceMethod y ∈ lw_all) (q3 : Cond.selects q.1 x y ∈ lw_all) (q4 : Cond.initialized y.cls ∈ lw_all) (q5 : Cond.code y bytes maxL rt ∈ lw_all) (hy : hyOK y) (hn : (parseMethodDescriptor y.desc).map (fun d => d.parameters.length) = some ks.length) (hfr : fr + 1 ≤ tM.fr E) (hlo : (tsr.map kCat).sum + (maxL + 11) + lo ≤ tM.lo E) (hh : (tM.hh E).all (fun q => !(decide (q.1 ≤ pc) && decide (pc < q.2.1))) = true) (hks : (2 :: ks).length = n) (hrv : false = rt.isSome) (hts : (2 :: ks).reverse ++ tsr = ts) (hd : decode (tM.cc E) pc = .ok (.invokevirtual idx, 3)) (hK : tSx E (pc + 3) lt ((rt.map kdF).toList ++ tsr) K) : tSx E pc lt ts (mv_callZv ct F hz n K) := s_callVU ct ks tsr hM hc9 hc q1 q1s hyx q2 q3 q4 q5 hy hn hfr hlo hh hks hrv hts hd hK
theorem ms_ldcw {i : Nat} {v : Int32} {x : Int} (hd : decode (tM.cc E) pc = .ok (.ldc_w i, 3)) (hq : Cond.constant (tM.own E) i v ∈ lw_all) (hx : v = Int32.ofInt x) (hK : tSx E (pc + 3) lt (0 :: ts) K) : tSx E pc lt ts (mx_push x K) := s_ldcw hd hq hx hK
theorem opk_ldcw {i : Nat} {v : Int32} {x : Int} (hq : Cond.constant (tM.own E) i v ∈ lw_all) (hx : v = Int32.ofInt x) : OpOK E (.ldc_w i, 3, [], [0], mx_push x) := fun pc lt ts K hd hst hK => ms_ldcw hd hq hx hK
end SMX
def mx_sw (f : Int → tX) : tX := ⟨(o_sw fun x => (f x).1.1, fun L S h J R => match S with
  | x :: S' => i32 x ∧ (f x).1.2 L S' h J R
  | _ => False), fun L S h J R H => match S, H with
  | x :: S', H => pIf H.1 ((f x).2 _ _ _ _ _ H.2)⟩
/-- the block of a number -/
def tSel : List (Int × Nat × tX) → Nat × tX → Int → Nat × tX
  | [], d, _ => d
  | q :: l, d, x => if x = q.1 then q.2 else tSel l d x
theorem tSel_p {q : Int × Nat × tX} {l : List (Int × Nat × tX)} {d : Nat × tX} {x : Int} {L S : List Int} {h : tH} {J : tJ} {R : tQ2} (H : (x = q.1 → q.2.2.1.2 L S h J R) ∧ (¬ x = q.1 → (tSel l d x).2.1.2 L S h J R)) : (tSel (q :: l) d x).2.1.2 L S h J R := by
  unfold tSel
  by_cases hx : x = q.1
  · rw [if_pos hx]; exact H.1 hx
  · rw [if_neg hx]; exact H.2 hx
def offAt (lo : Int) (offs : List Int) (x : Int) : Option Int := offs[(x - lo).toNat]?
section TSW
variable {E : tM} {pc : Nat} {lt : List (Nat × Nat)} {ts : List Nat}
theorem tSel_ok {l : List (Int × Nat × tX)} {d : Nat × tX} (hl : ∀ q ∈ l, tSx E q.2.1 lt ts q.2.2) (hd : tSx E d.1 lt ts d.2) : ∀ x, tSx E (tSel l d x).1 lt ts (tSel l d x).2 := by
  intro x
  induction l with
  | nil => exact hd
  | cons q l ih =>
    unfold tSel
    split
    · exact hl q List.mem_cons_self
    · exact ih fun z hz => hl z (List.mem_cons_of_mem _ hz)
/-- the cases of a table: number after number, as the offsets say -/
def tCk (pc : Nat) : Int → List Int → List (Int × Nat × tX) → Prop
  | _, [], l => l = []
  | lo, o :: os, l => match l with
    | [] => False
    | q :: l' => q.1 = lo ∧ (pc : Int) + o = (q.2.1 : Int) ∧ tCk pc (lo + 1) os l'
theorem tCk_in : ∀ {os : List Int} {lo : Int} {l : List (Int × Nat × tX)} {d : Nat × tX}, tCk pc lo os l → ∀ x, lo ≤ x → x < lo + os.length → ∃ off, os[(x - lo).toNat]? = some off ∧ (pc : Int) + off = ((tSel l d x).1 : Int)
  | [], lo, l, d, h, x, h1, h2 => by simp at h2; omega
  | o :: os, lo, [], d, h, x, h1, h2 => h.elim
  | o :: os, lo, q :: l, d, h, x, h1, h2 => by
    obtain ⟨e1, e2, e3⟩ := h
    unfold tSel
    by_cases hx : x = q.1
    · rw [if_pos hx]
      refine ⟨o, ?_, e2⟩
      rw [hx, e1, Int.sub_self]
      rfl
    · rw [if_neg hx]
      obtain ⟨off, g1, g2⟩ := tCk_in (d := d) e3 x (by omega) (by simp at h2; omega)
      refine ⟨off, ?_, g2⟩
      have : (x - lo).toNat = (x - (lo + 1)).toNat + 1 := by omega
      rw [this]
      exact g1
theorem tCk_out : ∀ {os : List Int} {lo : Int} {l : List (Int × Nat × tX)} {d : Nat × tX}, tCk pc lo os l → ∀ x, (x < lo ∨ lo + os.length ≤ x) → tSel l d x = d
  | [], lo, l, d, h, x, _ => by
    have h : l = [] := h
    subst h
    rfl
  | o :: os, lo, [], d, h, x, h1 => h.elim
  | o :: os, lo, q :: l, d, h, x, h1 => by
    obtain ⟨e1, e2, e3⟩ := h
    unfold tSel
    rw [if_neg (by simp at h1; omega)]
    exact tCk_out e3 x (by simp at h1; omega)
theorem ms_tsw {d lo hi : Int} {offs : Array Int} {len : Nat} (l : List (Int × Nat × tX)) (dd : Nat × tX) (hd : decode (tM.cc E) pc = .ok (.tableswitch d lo hi offs, len)) (hc : tCk pc lo offs.toList l) (hs : lo + offs.toList.length = hi + 1) (hdd : (pc : Int) + d = (dd.1 : Int)) (hl : ∀ q ∈ l, tSx E q.2.1 lt ts q.2.2) (hK : tSx E dd.1 lt ts dd.2) : tSx E pc lt (0 :: ts) (mx_sw fun x => (tSel l dd x).2) :=
  s_tsw hd fun x hx => ⟨(tSel l dd x).1, by
    by_cases hin : x < lo ∨ hi < x
    · refine Or.inl ⟨hin, ?_⟩
      rw [tCk_out hc x (by omega)]
      exact hdd
    · refine Or.inr ⟨fun z => hin (Or.inl z), fun z => hin (Or.inr z), ?_⟩
      obtain ⟨off, g1, g2⟩ := tCk_in (d := dd) hc x (by omega) (by omega)
      exact ⟨off, by rw [← Array.getElem?_toList]; exact g1, g2⟩, tSel_ok hl hK x⟩
end TSW
