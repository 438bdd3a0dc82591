/-! T: calls as blocks; throws; runs; contracts -/
def o_call (F : tFn) (n : Nat) (rv : Bool) (K : tB) : tB := fun L S h => match F (S.take n).reverse h with
  | none => none
  | some ((false, v), h') => K L (if rv = true then v :: S.drop n else S.drop n) h'
  | some ((true, q), h') => some (.inr ((true, q), h'))
/-- .. through an object of the class ct -/
def o_callv (ct : Nat) (F : tFn) (n : Nat) (rv : Bool) (K : tB) : tB := fun L S h => if h.2.2.1 (S.getD (n - 1) 0) = ct then o_call F n rv K L S h else none
theorem o_call_some {F : tFn} {n : Nat} {rv : Bool} {K : tB} {L S : List Int} {h : tH} {r : tN} (hB : o_call F n rv K L S h = some r) : ∃ (o : Bool × Int) (h' : tH), F (S.take n).reverse h = some (o, h') ∧ ((o.1 = false ∧ K L (if rv = true then o.2 :: S.drop n else S.drop n) h' = some r) ∨ (o.1 = true ∧ r = .inr (o, h'))) := by
  unfold o_call at hB
  cases hF : F (S.take n).reverse h with
  | none => rw [hF] at hB; cases hB
  | some x =>
    obtain ⟨⟨b, v⟩, h'⟩ := x
    rw [hF] at hB
    cases b with
    | false => exact ⟨(false, v), h', rfl, Or.inl ⟨rfl, hB⟩⟩
    | true => exact ⟨(true, v), h', rfl, Or.inr ⟨rfl, (Option.some.inj hB).symm⟩⟩
section TCB
variable {E : tM} {pc : Nat} {lt : List (Nat × Nat)} {ts : List Nat} {K : tB}
/-- what a call's block owes, whatever the kind of call -/
theorem tCallB {y : MethodName} {bytes : ByteArray} {maxL : Nat} {rt : Option FieldType} {ks tsr : List Nat} {fr lo n : Nat} {rv : Bool} {F : tFn} (G : List Int → tH → Prop) {B : tB} (hM : tMX (tM.D E) (tM.b0 E) y (ws_ y bytes maxL rt) rt ks fr lo F) (hcode : Cond.code y bytes maxL rt ∈ lw_all) (hini : Cond.initialized y.cls ∈ lw_all)
    (hfr : fr + 1 ≤ tM.fr E) (hlo : (tsr.map kCat).sum + (maxL + 11) + lo ≤ tM.lo E) (hh : (tM.hh E).all (fun q => !(decide (q.1 ≤ pc) && decide (pc < q.2.1))) = true) (hks : ks.length = n) (hrv : rv = rt.isSome) (hts : ks.reverse ++ tsr = ts)
    {ig : Instr} (hd : decode (tM.cc E) pc = .ok (ig, 3))
    (hB0 : ∀ L S h r, B L S h = some r → G S h ∧ o_call F n rv K L S h = some r)
    (hgo : ∀ (as Sr : List Int) (h : tH), as.length = ks.length → G (as.reverse ++ Sr) h → ∀ {p : Program} {l : Launch} {e : Env} {R : Room} {s : State} {m : MethodId} {args : Array Value} {below : List Frame} {meth : Method} {c : Code}, tC E l p R s m args meth c → ∀ (ls : Array Slot) (H : Heap) (locs : List Loc) (cells slots : Nat) (T : State), tR (tM.D E) (tM.b0 E) h H → T.heap = H → Stand p l e R s m args below meth c T locs cells slots → tGo p l e R s m args below meth c T locs cells slots (F0 m pc ls ((tSt ks as).reverse ++ tSt tsr Sr)) (tSt tsr Sr) y (tSt ks as).toArray)
    (hK : tSd E (pc + 3) lt ((rt.map kdF).toList ++ tsr) K) : tSd E pc lt ts B := by
  intro L S h r hB hS hL
  obtain ⟨hG, hB⟩ := hB0 L S h r hB
  obtain ⟨o, h', hF, hr⟩ := o_call_some hB
  subst hts
  have hlen : n ≤ S.length := by rw [hS, List.length_append, List.length_reverse, hks]; omega
  have hla : (S.take n).reverse.length = ks.length := by rw [List.length_reverse, List.length_take, hks]; omega
  have hlr : (S.drop n).length = tsr.length := by rw [List.length_drop, hS, List.length_append, List.length_reverse, hks]; omega
  have hSe : (S.take n).reverse.reverse ++ S.drop n = S := by rw [List.reverse_reverse, List.take_append_drop]
  have hG' : G ((S.take n).reverse.reverse ++ S.drop n) h := by rw [hSe]; exact hG
  have hmono := (hM launch0 (S.take n).reverse h o h' hF hla).1
  rcases hr with ⟨ho, hKe⟩ | ⟨ho, hre⟩
  · have hst : (if rv = true then o.2 :: S.drop n else S.drop n) = (rt.map fun _ => o.2).toList ++ S.drop n := by
      rw [hrv]
      cases rt <;> rfl
    rw [hst] at hKe
    obtain ⟨m1, w1⟩ := hK L _ h' r hKe (by cases rt <;> simp [hlr]) hL
    refine ⟨⟨Int.le_trans hmono.1 m1.1, Int.le_trans hmono.2 m1.2.1, m1.2.2⟩, fun p l e R s m args below meth c n0 u0 fin hC a1 a2 a3 a4 a5 a6 a7 a8 => ?_⟩
    have hw := tCallW (lt := lt) (L := L) hM hcode hini hfr hlo hh hF hla hlr hC a1 a2 (Int.le_trans m1.1 a3) (Int.le_trans m1.2.1 a4) a5 a6 hd (hgo _ _ h hla hG' hC) (fun z => by rw [ho] at z; cases z)
      (fun _ => w1 p l e R s m args below meth c n0 u0 fin hC (Int.le_trans a1 hmono.1) (Int.le_trans a2 hmono.2) a3 a4 a5 a6 a7 a8)
    rw [hSe] at hw
    exact hw
  · subst hre
    refine ⟨⟨hmono.1, hmono.2, fun pc' L' S' h' hz => by cases hz⟩, fun p l e R s m args below meth c n0 u0 fin hC a1 a2 a3 a4 a5 a6 a7 a8 => ?_⟩
    have hw := tCallW (l := l) (e := e) (below := below) (lt := lt) (L := L) hM hcode hini hfr hlo hh hF hla hlr hC a1 a2 a3 a4 a5 a6 hd (hgo _ _ h hla hG' hC) (fun _ => a7 _ rfl) (fun z => by rw [ho] at z; cases z)
    rw [hSe] at hw
    exact hw
/-- a receiver of the class ct -/
theorem t_recv {D : tD} {b0 : Nat} {h : tH} {H : Heap} (hR : tR D b0 h H) {s : State} (hK : tK D s) {ct : Nat} {q : vw_C} (hc9 : ct < 3000) (hc : xcl ct = some q) {x : Int} (hx : h.2.2.1 x = ct) : ∃ (b : Nat) (cell : Cell), x = (b : Int) + 1 ∧ H[b]? = some cell ∧ cell.vm.isStatics = false ∧ s.vm.findClass q.1 = some cell.cls := by
  obtain ⟨a, rfl, ha, cell, q1, q2, q3, q4⟩ := hR.objO hc9 hx hc
  exact ⟨a, cell, rfl, q1, by rw [q3]; rfl, by rw [q2]; exact (hK.1 ct q hc).2.1⟩
theorem t_hd0 (ks : List Nat) (n : Nat) (as Sr : List Int) (hl : as.length = (2 :: ks).length) (hn : (2 :: ks).length = n) : ∃ (x : Int) (as' : List Int), as = x :: as' ∧ as'.length = ks.length ∧ (as.reverse ++ Sr).getD (n - 1) 0 = x := by
  cases as with
  | nil => cases hl
  | cons x as' =>
    refine ⟨x, as', rfl, by simpa using hl, ?_⟩
    have h1 : n - 1 = as'.reverse.length := by
      rw [List.length_reverse]
      simp at hl hn
      omega
    rw [h1, List.reverse_cons, List.append_assoc]
    simp [List.getD_eq_getElem?_getD]
theorem s_callV (ct : Nat) {q : vw_C} {idx : Nat} {y : MethodName} {bytes : ByteArray} {maxL : Nat} {rt : Option FieldType} (ks tsr : List Nat) {fr lo n : Nat} {rv : Bool} {F : tFn} (hM : tMX (tM.D E) (tM.b0 E) y (ws_ y bytes maxL rt) rt (2 :: ks) fr lo F) (hc9 : ct < 3000) (hc : xcl ct = some q) (q1 : Cond.methodLink (tM.own E) idx y ∈ lw_all) (q2 : Cond.instanceMethod y ∈ lw_all) (q3 : Cond.selects q.1 y y ∈ lw_all) (q4 : Cond.initialized y.cls ∈ lw_all) (q5 : Cond.code y bytes maxL rt ∈ lw_all) (hy : hyOK y) (hn : (parseMethodDescriptor y.desc).map (fun d => d.parameters.length) = some ks.length)
    (hfr : fr + 1 ≤ tM.fr E) (hlo : (tsr.map kCat).sum + (maxL + 11) + lo ≤ tM.lo E) (hh : (tM.hh E).all (fun q => !(decide (q.1 ≤ pc) && decide (pc < q.2.1))) = true) (hks : (2 :: ks).length = n) (hrv : rv = rt.isSome) (hts : (2 :: ks).reverse ++ tsr = ts) (hd : decode (tM.cc E) pc = .ok (.invokevirtual idx, 3)) (hK : tSd E (pc + 3) lt ((rt.map kdF).toList ++ tsr) K) : tSd E pc lt ts (o_callv ct F n rv K) :=
  tCallB (tsr := tsr) (G := fun S h => h.2.2.1 (S.getD (n - 1) 0) = ct) hM q5 q4 hfr hlo hh hks hrv hts hd (fun L S h r hB => by
    unfold o_callv at hB
    split at hB
    · exact ⟨‹_›, hB⟩
    · cases hB) (fun as Sr h hla hG p l e R s m args below meth c hC ls H locs cells slots T hR hT X => by
    obtain ⟨x, as', rfl, hl', hx⟩ := t_hd0 ks n as Sr hla hks
    rw [hx] at hG
    obtain ⟨b, cell, rfl, c1, c2, c3⟩ := t_recv hR hC.2.2.2.2.2.1 hc9 hc hG
    rw [tSt_cons, tE_ptr]
    exact goV X hC.1 hC.2.2.2.1 hC.2.2.2.2.1 q1 q2 q3 (hC.2.2.2.2.1 _ q5) hy hn (by rw [hT]; exact c1) c2 c3 rfl (tSt_len ks as' hl') (by simp) (by rw [hC.2.1]; exact hd)) hK
theorem s_callVN (ct : Nat) {q : vw_C} {idx : Nat} {host : String} {y : MethodName} {bytes : ByteArray} {maxL : Nat} {rt : Option FieldType} (ks tsr : List Nat) {fr lo n : Nat} {rv : Bool} {F : tFn} (hM : tMX (tM.D E) (tM.b0 E) y (ws_ y bytes maxL rt) rt (2 :: ks) fr lo F) (hc9 : ct < 3000) (hc : xcl ct = some q) (q1 : Cond.methodLinkNest (tM.own E) idx y host ∈ lw_tbl) (q2 : Cond.instanceMethod y ∈ lw_all) (q3 : Cond.selects q.1 y y ∈ lw_all) (q4 : Cond.initialized y.cls ∈ lw_all) (q5 : Cond.code y bytes maxL rt ∈ lw_all) (hy : hyOK y) (hn : (parseMethodDescriptor y.desc).map (fun d => d.parameters.length) = some ks.length)
    (hfr : fr + 1 ≤ tM.fr E) (hlo : (tsr.map kCat).sum + (maxL + 11) + lo ≤ tM.lo E) (hh : (tM.hh E).all (fun q => !(decide (q.1 ≤ pc) && decide (pc < q.2.1))) = true) (hks : (2 :: ks).length = n) (hrv : rv = rt.isSome) (hts : (2 :: ks).reverse ++ tsr = ts) (hd : decode (tM.cc E) pc = .ok (.invokevirtual idx, 3)) (hK : tSd E (pc + 3) lt ((rt.map kdF).toList ++ tsr) K) : tSd E pc lt ts (o_callv ct F n rv K) :=
  tCallB (tsr := tsr) (G := fun S h => h.2.2.1 (S.getD (n - 1) 0) = ct) hM q5 q4 hfr hlo hh hks hrv hts hd (fun L S h r hB => by
    unfold o_callv at hB
    split at hB
    · exact ⟨‹_›, hB⟩
    · cases hB) (fun as Sr h hla hG p l e R s m args below meth c hC ls H locs cells slots T hR hT X => by
    obtain ⟨x, as', rfl, hl', hx⟩ := t_hd0 ks n as Sr hla hks
    rw [hx] at hG
    obtain ⟨b, cell, rfl, c1, c2, c3⟩ := t_recv hR hC.2.2.2.2.2.1 hc9 hc hG
    rw [tSt_cons, tE_ptr]
    exact goVN X hC.1 hC.2.2.2.1 hC.2.2.2.2.1 (va_Nw.use rfl (hC.2.2.2.2.2.2.2.2.2.2.2.2.2.1 _ q1 rfl)) q2 q3 (hC.2.2.2.2.1 _ q5) hy hn (by rw [hT]; exact c1) c2 c3 rfl (tSt_len ks as' hl') (by simp) (by rw [hC.2.1]; exact hd)) hK
theorem s_callS {idx : Nat} {y : MethodName} {bytes : ByteArray} {maxL : Nat} {rt : Option FieldType} (ks tsr : List Nat) {fr lo n : Nat} {rv : Bool} {F : tFn} (hM : tMX (tM.D E) (tM.b0 E) y (ws_ y bytes maxL rt) rt ks fr lo F) (q1 : Cond.methodLink (tM.own E) idx y ∈ lw_all) (q2 : Cond.static y ∈ lw_all) (q4 : Cond.initialized y.cls ∈ lw_all) (q5 : Cond.code y bytes maxL rt ∈ lw_all) (hy : hyOK y) (hn : (parseMethodDescriptor y.desc).map (fun d => d.parameters.length) = some ks.length)
    (hfr : fr + 1 ≤ tM.fr E) (hlo : (tsr.map kCat).sum + (maxL + 11) + lo ≤ tM.lo E) (hh : (tM.hh E).all (fun q => !(decide (q.1 ≤ pc) && decide (pc < q.2.1))) = true) (hks : ks.length = n) (hrv : rv = rt.isSome) (hts : ks.reverse ++ tsr = ts) (hd : decode (tM.cc E) pc = .ok (.invokestatic idx, 3)) (hK : tSd E (pc + 3) lt ((rt.map kdF).toList ++ tsr) K) : tSd E pc lt ts (o_call F n rv K) :=
  tCallB (tsr := tsr) (G := fun _ _ => True) hM q5 q4 hfr hlo hh hks hrv hts hd (fun L S h r hB => ⟨trivial, hB⟩) (fun as Sr h hla hG p l e R s m args below meth c hC ls H locs cells slots T hR hT X =>
    goS X hC.1 hC.2.2.2.1 hC.2.2.2.2.1 q1 q2 q4 (hC.2.2.2.2.1 _ q5) hy hn rfl (tSt_len ks as hla) rfl (by rw [hC.2.1]; exact hd)) hK
theorem s_callSN {idx : Nat} {host : String} {y : MethodName} {bytes : ByteArray} {maxL : Nat} {rt : Option FieldType} (ks tsr : List Nat) {fr lo n : Nat} {rv : Bool} {F : tFn} (hM : tMX (tM.D E) (tM.b0 E) y (ws_ y bytes maxL rt) rt ks fr lo F) (q1 : Cond.methodLinkNest (tM.own E) idx y host ∈ lw_tbl) (q2 : Cond.static y ∈ lw_all) (q4 : Cond.initialized y.cls ∈ lw_all) (q5 : Cond.code y bytes maxL rt ∈ lw_all) (hy : hyOK y) (hn : (parseMethodDescriptor y.desc).map (fun d => d.parameters.length) = some ks.length)
    (hfr : fr + 1 ≤ tM.fr E) (hlo : (tsr.map kCat).sum + (maxL + 11) + lo ≤ tM.lo E) (hh : (tM.hh E).all (fun q => !(decide (q.1 ≤ pc) && decide (pc < q.2.1))) = true) (hks : ks.length = n) (hrv : rv = rt.isSome) (hts : ks.reverse ++ tsr = ts) (hd : decode (tM.cc E) pc = .ok (.invokestatic idx, 3)) (hK : tSd E (pc + 3) lt ((rt.map kdF).toList ++ tsr) K) : tSd E pc lt ts (o_call F n rv K) :=
  tCallB (tsr := tsr) (G := fun _ _ => True) hM q5 q4 hfr hlo hh hks hrv hts hd (fun L S h r hB => ⟨trivial, hB⟩) (fun as Sr h hla hG p l e R s m args below meth c hC ls H locs cells slots T hR hT X =>
    goSN X hC.1 hC.2.2.2.1 hC.2.2.2.2.1 (va_Nw.use rfl (hC.2.2.2.2.2.2.2.2.2.2.2.2.2.1 _ q1 rfl)) q2 q4 (hC.2.2.2.2.1 _ q5) hy hn rfl (tSt_len ks as hla) rfl (by rw [hC.2.1]; exact hd)) hK
theorem s_callI (ct : Nat) {q : vw_C} {idx : Nat} {y : MethodName} {bytes : ByteArray} {maxL : Nat} (ks tsr : List Nat) {fr lo n : Nat} {F : tFn} (hM : tMX (tM.D E) (tM.b0 E) y (ws_ y bytes maxL none) none (2 :: ks) fr lo F) (hc9 : ct < 3000) (hc : xcl ct = some q) (hy1 : y.name = "<init>") (q1 : Cond.methodLink (tM.own E) idx y ∈ lw_all) (q2 : Cond.instanceMethod y ∈ lw_all) (q4 : Cond.initialized y.cls ∈ lw_all) (q5 : Cond.code y bytes maxL none ∈ lw_all) (hy : hyOK y) (hn : (parseMethodDescriptor y.desc).map (fun d => d.parameters.length) = some ks.length)
    (hfr : fr + 1 ≤ tM.fr E) (hlo : (tsr.map kCat).sum + (maxL + 11) + lo ≤ tM.lo E) (hh : (tM.hh E).all (fun q => !(decide (q.1 ≤ pc) && decide (pc < q.2.1))) = true) (hks : (2 :: ks).length = n) (hts : (2 :: ks).reverse ++ tsr = ts) (hd : decode (tM.cc E) pc = .ok (.invokespecial idx, 3)) (hK : tSd E (pc + 3) lt tsr K) : tSd E pc lt ts (o_callv ct F n false K) :=
  tCallB (rv := false) (tsr := tsr) (G := fun S h => h.2.2.1 (S.getD (n - 1) 0) = ct) hM q5 q4 hfr hlo hh hks rfl hts hd (fun L S h r hB => by
    unfold o_callv at hB
    split at hB
    · exact ⟨‹_›, hB⟩
    · cases hB) (fun as Sr h hla hG p l e R s m args below meth c hC ls H locs cells slots T hR hT X => by
    obtain ⟨x, as', rfl, hl', hx⟩ := t_hd0 ks n as Sr hla hks
    rw [hx] at hG
    obtain ⟨b, cell, rfl, c1, c2, c3⟩ := t_recv hR hC.2.2.2.2.2.1 hc9 hc hG
    rw [tSt_cons, tE_ptr]
    exact goI X hC.1 hC.2.2.2.1 hC.2.2.2.2.1 hy1 q1 q2 (hC.2.2.2.2.1 _ q5) hy hn rfl (tSt_len ks as' hl') (by simp) (by rw [hC.2.1]; exact hd)) hK
theorem s_callIN (ct : Nat) {q : vw_C} {idx : Nat} {host : String} {y : MethodName} {bytes : ByteArray} {maxL : Nat} (ks tsr : List Nat) {fr lo n : Nat} {F : tFn} (hM : tMX (tM.D E) (tM.b0 E) y (ws_ y bytes maxL none) none (2 :: ks) fr lo F) (hc9 : ct < 3000) (hc : xcl ct = some q) (hy1 : y.name = "<init>") (q1 : Cond.methodLinkNest (tM.own E) idx y host ∈ lw_tbl) (q2 : Cond.instanceMethod y ∈ lw_all) (q4 : Cond.initialized y.cls ∈ lw_all) (q5 : Cond.code y bytes maxL none ∈ lw_all) (hy : hyOK y) (hn : (parseMethodDescriptor y.desc).map (fun d => d.parameters.length) = some ks.length)
    (hfr : fr + 1 ≤ tM.fr E) (hlo : (tsr.map kCat).sum + (maxL + 11) + lo ≤ tM.lo E) (hh : (tM.hh E).all (fun q => !(decide (q.1 ≤ pc) && decide (pc < q.2.1))) = true) (hks : (2 :: ks).length = n) (hts : (2 :: ks).reverse ++ tsr = ts) (hd : decode (tM.cc E) pc = .ok (.invokespecial idx, 3)) (hK : tSd E (pc + 3) lt tsr K) : tSd E pc lt ts (o_callv ct F n false K) :=
  tCallB (rv := false) (tsr := tsr) (G := fun S h => h.2.2.1 (S.getD (n - 1) 0) = ct) hM q5 q4 hfr hlo hh hks rfl hts hd (fun L S h r hB => by
    unfold o_callv at hB
    split at hB
    · exact ⟨‹_›, hB⟩
    · cases hB) (fun as Sr h hla hG p l e R s m args below meth c hC ls H locs cells slots T hR hT X => by
    obtain ⟨x, as', rfl, hl', hx⟩ := t_hd0 ks n as Sr hla hks
    rw [hx] at hG
    obtain ⟨b, cell, rfl, c1, c2, c3⟩ := t_recv hR hC.2.2.2.2.2.1 hc9 hc hG
    rw [tSt_cons, tE_ptr]
    exact goIN X hC.1 hC.2.2.2.1 hC.2.2.2.2.1 hy1 (va_Nw.use rfl (hC.2.2.2.2.2.2.2.2.2.2.2.2.2.1 _ q1 rfl)) q2 (hC.2.2.2.2.1 _ q5) hy hn rfl (tSt_len ks as' hl') (by simp) (by rw [hC.2.1]; exact hd)) hK
/-- Object's constructor -/
def o_obj (K : tB) : tB := fun L S h => match S with
  | p :: S' => if h.2.2.1 p < 1000 then K L S' h else none
  | _ => none
theorem s_obj {idx : Nat} (q1 : Cond.methodLink (tM.own E) idx Lib.objectInit ∈ lw_all) (q2 : Cond.instanceMethod Lib.objectInit ∈ lw_all) (q3 : Cond.code Lib.objectInit ⟨#[0xb1]⟩ 1 none ∈ lw_all) (hfr : 1 ≤ tM.fr E) (hlo : (ts.map kCat).sum + 12 ≤ tM.lo E) (hd : decode (tM.cc E) pc = .ok (.invokespecial idx, 3)) (hK : tSd E (pc + 3) lt ts K) : tSd E pc lt (2 :: ts) (o_obj K) :=
  hK.step fun L S h r hB hS hL => by
    match S, hB, hS with
    | q :: S', hB, hS =>
      unfold o_obj at hB
      simp only at hB
      split at hB
      · rename_i hp
        refine ⟨L, S', hB, by simpa using hS, hL, fun pr l e R s m args below meth cd n0 u0 fin hC hW ls H locs g1 g2 g3 => ?_⟩
        obtain ⟨a, rfl, -⟩ := g2.ptr (p := q) (by omega)
        have hts := hC.2.2.2.2.1
        rw [tSt_cons, tE_ptr]
        refine W.objInit hC.1 hC.2.1 hC.2.2.2.1 (hts _ q1) (hts _ q2) (hts _ q3) rfl (by rw [hC.2.2.1]; exact g1.1) rfl hd (Nat.le_trans hfr hC.2.2.2.2.2.2.2.1) ?_ (hW ls H locs g1 g2 g3)
        rw [tSt_cat _ _ (by simpa using hS)]
        refine Nat.le_trans ?_ (Nat.le_trans hlo hC.2.2.2.2.2.2.2.2.1)
        simp [JFrame.monitorRoom]
      · cases hB
/-- a throw that leaves the method -/
def o_throw : tB := fun _ S h => match S with
  | p :: _ => if h.2.2.1 p < 1000 then some (.inr ((true, p), h)) else none
  | _ => none
theorem s_throw (hh : (tM.hh E).all (fun q => !(decide (q.1 ≤ pc) && decide (pc < q.2.1))) = true) (hd : decode (tM.cc E) pc = .ok (.athrow, 1)) : tSd E pc lt (2 :: ts) o_throw :=
  tSd.stop fun L S h r hB hS hL => by
    match S, hB, hS with
    | q :: S', hB, hS =>
      unfold o_throw at hB
      simp only at hB
      split at hB
      · rename_i hp
        cases hB
        refine ⟨(true, q), rfl, fun pr l e R s m args below meth cd n0 u0 hC ls H locs g1 g2 g3 => ?_⟩
        obtain ⟨a, rfl, -⟩ := g2.ptr (p := q) (by omega)
        rw [tSt_cons, tE_ptr]
        intro T hT X
        obtain ⟨hsteps2, hrun, hend, hwm, hsame⟩ := X.athrowLeaves hC.1 (g := F0 m pc ls (.ref a :: tSt ts S')) rfl rfl rfl (tHh hC.2.2.2.2.2.2.2.2.2.2.2.2.1 hh) rfl (by rw [hC.2.1]; exact hd) hC.2.2.2.2.2.2.2.2.2.1
        refine ⟨_, hsteps2, hrun, ?_, by show tR _ _ _ T.heap; rw [hT]; exact g2, hwm, fun q hq => ?_, locs, hsame, g3.2.2⟩
        · have h1 : tO (tM.rt E) (true, (a : Int) + 1) = .threw a := by
            show Outcome.threw ((a : Int) + 1 - 1).toNat = _
            rw [show ((a : Int) + 1 - 1).toNat = a by omega]
          rw [h1]
          exact hend
        · show T.heap[q]? = _
          rw [hT]
          exact g3.2.1 q (Nat.lt_of_lt_of_le hq hC.2.2.2.2.2.2.1) (by omega)
      · cases hB
theorem s_none : tSd E pc lt ts (fun _ _ _ => none) := fun _ _ _ _ hB => by cases hB
end TCB
/-! runs -/
def tRun (Bk : Nat → tB) : Nat → Nat → List Int → List Int → tH → Option ((Bool × Int) × tH)
  | 0, _, _, _, _ => none
  | n + 1, pc, L, S, h => match Bk pc L S h with
    | none => none
    | some (.inl x) => tRun Bk n x.1 x.2.1 x.2.2.1 x.2.2.2
    | some (.inr x) => some x
theorem tRun_sound {E : tM} {Bk : Nat → tB} (hs : ∀ pc, tSd E pc (tM.te E pc).1 (tM.te E pc).2 (Bk pc)) : ∀ (n pc : Nat) (L S : List Int) (h : tH) (fin : (Bool × Int) × tH), tRun Bk n pc L S h = some fin → S.length = (tM.te E pc).2.length → L.length = tM.nL E →
    (h.2.2.2.1 ≤ fin.2.2.2.2.1 ∧ h.2.2.2.2 ≤ fin.2.2.2.2.2) ∧ ∀ (p : Program) (l : Launch) (e : Env) (R : Room) (s : State) (m : MethodId) (args : Array Value) (below : List Frame) (meth : Method) (c : Code) (n0 u0 : Int),
      tC E l p R s m args meth c → n0 ≤ h.2.2.2.1 → u0 ≤ h.2.2.2.2 → R.cells = (fin.2.2.2.2.1 - n0).toNat → R.slots = (fin.2.2.2.2.2 - u0).toNat →
      tW E p l e R s m args below meth c n0 u0 fin pc (tM.te E pc).1 (tM.te E pc).2 L S h := by
  intro n
  induction n with
  | zero => intro pc L S h fin hr; cases hr
  | succ n ih =>
    intro pc L S h fin hr hS hL
    unfold tRun at hr
    cases hB : Bk pc L S h with
    | none => rw [hB] at hr; cases hr
    | some x =>
      rw [hB] at hr
      obtain ⟨m1, w1⟩ := hs pc L S h x hB hS hL
      cases x with
      | inr y =>
        have hy : y = fin := Option.some.inj hr
        subst hy
        refine ⟨⟨m1.1, m1.2.1⟩, fun p l e R s m args below meth c n0 u0 hC a1 a2 a5 a6 => ?_⟩
        exact w1 p l e R s m args below meth c n0 u0 y hC a1 a2 (Int.le_refl _) (Int.le_refl _) a5 a6 (fun z hz => Sum.inr.inj hz) (fun pc' L' S' h' hz => by cases hz)
      | inl y =>
        obtain ⟨pc', L', S', h'⟩ := y
        have hl := m1.2.2 pc' L' S' h' rfl
        · obtain ⟨m2, w2⟩ := ih pc' L' S' h' fin hr hl.2 hl.1
          refine ⟨⟨Int.le_trans m1.1 m2.1, Int.le_trans m1.2.1 m2.2⟩, fun p l e R s m args below meth c n0 u0 hC a1 a2 a5 a6 => ?_⟩
          refine w1 p l e R s m args below meth c n0 u0 fin hC a1 a2 m2.1 m2.2 a5 a6 (fun z hz => by cases hz) (fun pc2 L2 S2 h2 hz _ _ => ?_)
          cases hz
          exact w2 p l e R s m args below meth c n0 u0 hC (Int.le_trans a1 m1.1) (Int.le_trans a2 m1.2.1) a5 a6
