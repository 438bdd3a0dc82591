/-! T, more: returns of chars and bytes, casts, class objects, clones, the cache of Integers -/
def o_retG (lo hi : Int) : tB := fun _ S h => match S with
  | x :: _ => if lo ≤ x ∧ x ≤ hi then some (.inr ((false, x), h)) else none
  | _ => none
def mx_retG (lo hi : Int) : tX := ⟨(o_retG lo hi, fun _ S h _ R => match S with
  | x :: _ => (lo ≤ x ∧ x ≤ hi) ∧ R (false, x) h
  | _ => False), fun L S h J R H => match S, H with
  | x :: S', H => pIf H.1 ⟨.inr ((false, x), h), rfl, H.2⟩⟩
def mx_putfB (c k : Nat) (hok : ∀ v, (-128 ≤ v ∧ v ≤ 127) → okF (xty c k) v = true) (K : tX) : tX := ⟨(o_putf c k K.1.1, fun L S h J R => match S with
  | v :: p :: S' => (h.2.2.1 p = c ∧ (-128 ≤ v ∧ v ≤ 127)) ∧ K.1.2 L S' (tPut h p k v) J R
  | _ => False), fun L S h J R H => match S, H with
  | v :: p :: S', H => pIf ⟨H.1.1, hok v H.1.2⟩ (K.2 _ _ _ _ _ H.2)⟩
def mx_cast2 (c c' : Nat) (K : tX) : tX := ⟨(fun L S h => if decide (h.2.2.1 (S.getD 0 0) = c) = true then o_cast c K.1.1 L S h else o_cast c' K.1.1 L S h, fun L S h J R => match S with
  | p :: S' => (h.2.2.1 p = c ∨ h.2.2.1 p = c') ∧ K.1.2 L (p :: S') h J R
  | _ => False), fun L S h J R H => match S, H with
  | p :: S', H => by
    by_cases hc : h.2.2.1 p = c
    · simp only [List.getD_cons_zero, hc, decide_true, if_true]
      exact pIf hc (K.2 _ _ _ _ _ H.2)
    · simp only [List.getD_cons_zero, hc, decide_false, Bool.false_eq_true, if_false]
      exact pIf (H.1.resolve_left hc) (K.2 _ _ _ _ _ H.2)⟩
def o_inst (c : Nat) (K : tB) : tB := fun L S h => match S with
  | p :: S' => if h.2.2.1 p = c then K L (1 :: S') h else none
  | _ => none
def mx_inst (c : Nat) (K : tX) : tX := ⟨(o_inst c K.1.1, fun L S h J R => match S with
  | p :: S' => h.2.2.1 p = c ∧ K.1.2 L (1 :: S') h J R
  | _ => False), fun L S h J R H => match S, H with
  | p :: S', H => pIf H.1 (K.2 _ _ _ _ _ H.2)⟩
def mv_callZ2 (ct ct' : Nat) (F : tFn) {fg : List Int → tH → Prop} {fv : List Int → tH → Int} {fh : List Int → tH → tH} (hz : tZ F fg fv fh) (n : Nat) (K : tX) : tX := ⟨(fun L S h => if decide (h.2.2.1 (S.getD (n - 1) 0) = ct) = true then o_callv ct F n true K.1.1 L S h else o_callv ct' F n true K.1.1 L S h, fun L S h J R => (h.2.2.1 (S.getD (n - 1) 0) = ct ∨ h.2.2.1 (S.getD (n - 1) 0) = ct') ∧ fg (S.take n).reverse h ∧ K.1.2 L (fv (S.take n).reverse h :: S.drop n) (fh (S.take n).reverse h) J R), fun L S h J R H => by
    by_cases hc : h.2.2.1 (S.getD (n - 1) 0) = ct
    · simp only [hc, decide_true, if_true]
      exact pIf hc (o_callN (rv := true) ⟨_, _, hz _ _ H.2.1, H.2.2⟩)
    · simp only [hc, decide_false, Bool.false_eq_true, if_false]
      exact pIf (H.1.resolve_left hc) (o_callN (rv := true) ⟨_, _, hz _ _ H.2.1, H.2.2⟩)⟩
def o_getC (K : tB) : tB := fun L S h => match S with
  | p :: S' => if h.2.2.1 p = 1010 then K L (h.1.1 0 4 :: S') h else none
  | _ => none
def mx_getC (K : tX) : tX := ⟨(o_getC K.1.1, fun L S h J R => match S with
  | p :: S' => h.2.2.1 p = 1010 ∧ K.1.2 L (h.1.1 0 4 :: S') h J R
  | _ => False), fun L S h J R H => match S, H with
  | p :: S', H => pIf H.1 (K.2 _ _ _ _ _ H.2)⟩
/-- the cache of Integers -/
def o_cache (K : tB) : tB := fun L S h => match S with
  | i :: p :: S' => if p = h.1.1 0 1 ∧ 0 ≤ i ∧ i < 256 then K L (h.1.1 0 (100 + i) :: S') h else none
  | _ => none
def mx_cache (K : tX) : tX := ⟨(o_cache K.1.1, fun L S h J R => match S with
  | i :: p :: S' => (p = h.1.1 0 1 ∧ 0 ≤ i ∧ i < 256) ∧ K.1.2 L (h.1.1 0 (100 + i) :: S') h J R
  | _ => False), fun L S h J R H => match S, H with
  | i :: p :: S', H => pIf H.1 (K.2 _ _ _ _ _ H.2)⟩
/-- a copy of a byte array -/
def tCl (h : tH) (p : Int) : tH := tRow (tNew h 1003 (h.2.1 p) (h.2.1 p)) h.2.2.2.1 (h.1.2 p)
noncomputable def o_clone (K : tB) : tB := fun L S h => match S with
  | p :: S' => @ite _ (h.2.2.1 p = 1003 ∧ 0 ≤ h.2.1 p ∧ ∀ i, 0 ≤ i → i < h.2.1 p → (-128 ≤ h.1.2 p i ∧ h.1.2 p i ≤ 127)) (Classical.propDecidable _) (K L (h.2.2.2.1 :: S') (tCl h p)) none
  | _ => none
noncomputable def mx_clone (K : tX) : tX := ⟨(o_clone K.1.1, fun L S h J R => match S with
  | p :: S' => (h.2.2.1 p = 1003 ∧ 0 ≤ h.2.1 p ∧ ∀ i, 0 ≤ i → i < h.2.1 p → (-128 ≤ h.1.2 p i ∧ h.1.2 p i ≤ 127)) ∧ K.1.2 L (h.2.2.2.1 :: S') (tCl h p) J R
  | _ => False), fun L S h J R H => match S, H with
  | p :: S', H => @pIf _ (Classical.propDecidable _) _ _ H.1 (K.2 _ _ _ _ _ H.2)⟩
section TX4
variable {E : tM} {pc : Nat} {lt : List (Nat × Nat)} {ts : List Nat} {K : tX}
theorem ms_retG (lo hi : Int) {ty : FieldType} (hd : decode (tM.cc E) pc = .ok (.ireturn, 1)) (hr : tM.rt E = some ty) (hk : kdF ty = 0) (hn : ∀ x : Int, lo ≤ x ∧ x ≤ hi → narrow ty (.int (Int32.ofInt x)) = .int (Int32.ofInt x)) : tSx E pc lt [0] (mx_retG lo hi) :=
  tSd.stop (B := o_retG lo hi) fun L S h r hB hS hL => by
    match S, hB, hS with
    | [x], hB, hS =>
      unfold o_retG at hB
      simp only at hB
      split at hB
      · rename_i hx
        cases hB
        refine ⟨(false, x), rfl, fun p l e R s m args below meth c n0 u0 hC ls H locs h1 h2 h3 => ?_⟩
        exact W.mono (fun t q => tQ.of q) (W.zret (v := Int32.ofInt x) (ty := ty) hC.1 hC.2.1 (by rw [hC.2.2.2.2.2.2.2.2.2.2.1]; exact hr) (hn x hx) (fun t ht hw => tEnd hC.2.2.2.2.2.2.1 h2 h3 (by rw [hr]; show Outcome.returned _ = Outcome.returned (some (tE (kdF ty) x)); rw [hk]; rfl) t ht) h3.2.2 hd hC.2.2.2.2.2.2.2.2.2.1)
      · cases hB
theorem nar_c (x : Int) (h : 0 ≤ x ∧ x ≤ 65535) : narrow .char (.int (Int32.ofInt x)) = .int (Int32.ofInt x) := by
  show Value.int (Int32.ofInt x).toUInt32.toUInt16.toUInt32.toInt32 = _
  rw [lg_i2c_small (by rw [t32 ⟨by omega, by omega⟩]; omega) (by rw [t32 ⟨by omega, by omega⟩]; omega)]
theorem nar_b (x : Int) (h : -128 ≤ x ∧ x ≤ 127) : narrow .byte (.int (Int32.ofInt x)) = .int (Int32.ofInt x) := (okF_spec (t := .byte) (decide_eq_true h)).1
theorem ms_putfB (c k : Nat) {hok : ∀ v, (-128 ≤ v ∧ v ≤ 127) → okF (xty c k) v = true} {q : vw_C} {idx : Nat} {ref : String} (kd : Nat) (hd : decode (tM.cc E) pc = .ok (.putfield idx, 3)) (hc : xcl c = some q) (hc9 : c < 1000) (hk : k < q.2.2) (hq : Cond.fieldLink (tM.own E) idx ref (q.2.1 k).2.1 (q.2.1 k).2.2.1 ∈ lw_all) (hs : ref = (q.2.1 k).1 ∨ Cond.sameField ref (q.2.1 k).1 (q.2.1 k).2.1 (q.2.1 k).2.2.1 ∈ lw_all) (hfin : (q.2.1 k).2.2.2 = false ∨ ((q.2.1 k).2.2.2 = true ∧ tM.ini E = true ∧ (q.2.1 k).1 = tM.own E)) (hkd : kdF (xty c k) = kd) (hK : tSx E (pc + 3) lt ts K) : tSx E pc lt (kd :: 2 :: ts) (mx_putfB c k hok K) := s_putf c k kd hd hc hc9 hk hq hs hfin hkd hK
theorem s_castO (c : Nat) {q : vw_C} {idx : Nat} (hc9 : c < 3000) (hc : xcl c = some q) (h1 : Cond.classLink (tM.own E) idx q.1 ∈ lw_all) (hd : decode (tM.cc E) pc = .ok (.checkcast idx, 3)) {K : tB} (hK : tSd E (pc + 3) lt (2 :: ts) K) : tSd E pc lt (2 :: ts) (o_cast c K) :=
  hK.step fun L S h r hB hS hL => by
    obtain ⟨x, S', rfl, hp, hB⟩ := o_cast_some hB
    refine ⟨L, _, hB, by simpa using hS, hL, fun pr l e R s m args below meth cd n0 u0 fin hC hW ls H locs g1 g2 g3 => ?_⟩
    obtain ⟨a, rfl, ha, cell, q1, q2, q3, q4⟩ := g2.objO hc9 hp hc
    have hw := hW ls H locs g1 g2 g3
    rw [tSt_cons, tE_ptr] at hw ⊢
    exact va_castE hC.1 hC.2.1 hC.2.2.2.1 (hC.2.2.2.2.1 _ h1) ⟨cell, q1, by rw [q3]; rfl, by rw [q2]; exact (hC.2.2.2.2.2.1.1 c q hc).2.1⟩ hd hw
theorem ms_cast2 (c c' : Nat) {q q' : vw_C} {idx : Nat} (hc9 : c < 3000) (hc9' : c' < 3000) (hc : xcl c = some q) (hc' : xcl c' = some q') (h1 : Cond.classLink (tM.own E) idx q.1 ∈ lw_all) (h1' : Cond.classLink (tM.own E) idx q'.1 ∈ lw_all) (hd : decode (tM.cc E) pc = .ok (.checkcast idx, 3)) (hK : tSx E (pc + 3) lt (2 :: ts) K) : tSx E pc lt (2 :: ts) (mx_cast2 c c' K) := tSd.or (s_castO c hc9 hc h1 hd hK) (s_castO c' hc9' hc' h1' hd hK)
theorem ms_castO (c : Nat) {q : vw_C} {idx : Nat} (hc9 : c < 3000) (hc : xcl c = some q) (h1 : Cond.classLink (tM.own E) idx q.1 ∈ lw_all) (hd : decode (tM.cc E) pc = .ok (.checkcast idx, 3)) (hK : tSx E (pc + 3) lt (2 :: ts) K) : tSx E pc lt (2 :: ts) (mx_cast c K) := s_castO c hc9 hc h1 hd hK
theorem ms_inst (c : Nat) {q : vw_C} {idx : Nat} (hc9 : c < 3000) (hc : xcl c = some q) (h1 : Cond.classLink (tM.own E) idx q.1 ∈ lw_all) (hd : decode (tM.cc E) pc = .ok (.instanceof idx, 3)) (hK : tSx E (pc + 3) lt (0 :: ts) K) : tSx E pc lt (2 :: ts) (mx_inst c K) :=
  tSd.step (K := K.1.1) hK fun L S h r hB hS hL => by
    match S, hB, hS with
    | x :: S', hB, hS =>
      have hB : (if h.2.2.1 x = c then K.1.1 L (1 :: S') h else none) = some r := hB
      split at hB
      · rename_i hp
        refine ⟨L, _, hB, by simpa using hS, hL, fun pr l e R s m args below meth cd n0 u0 fin hC hW ls H locs g1 g2 g3 => ?_⟩
        obtain ⟨a, rfl, ha, cell, q1, q2, q3, q4⟩ := g2.objO hc9 hp hc
        have hw := hW ls H locs g1 g2 g3
        rw [tSt_cons, tE_ptr]
        exact va_instE hC.1 hC.2.1 hC.2.2.2.1 (hC.2.2.2.2.1 _ h1) ⟨cell, q1, by rw [q3]; rfl, by rw [q2]; exact (hC.2.2.2.2.2.1.1 c q hc).2.1⟩ hd hw
      · cases hB
theorem t_castJ (D : tD) (s : State) (hK : tK D s) : s.vm.findClass "[J" = some (tCls D 1001) := (hK.2 1 _ rfl).2
theorem t_castB (D : tD) (s : State) (hK : tK D s) : s.vm.findClass "[B" = some (tCls D 1003) := (hK.2 3 _ rfl).2
theorem t_castOA {k : Nat} {C nm : String} (hk : xar k = some (.object C)) (hm : "[" ++ (FieldType.object C).toString = nm) (D : tD) (s : State) (hK : tK D s) (hk9 : k < 1000) : s.vm.findClass nm = some (tCls D (1000 + k)) := by
  unfold tCls
  rw [if_neg (by omega), show 1000 + k - 1000 = k by omega]
  exact va_nmO (hK.2 k _ hk).2 hm
def getClassName : MethodName := ⟨"java/lang/Object", "getClass", "()Ljava/lang/Class;"⟩
theorem ms_getC {idx : Nat} (q1 : Cond.methodLink (tM.own E) idx ⟨"java/lang/Object", "getClass", "()Ljava/lang/Class;"⟩ ∈ lw_all) (qs : Cond.selects "[Ljava/lang/Object;" ⟨"java/lang/Object", "getClass", "()Ljava/lang/Class;"⟩ ⟨"java/lang/Object", "getClass", "()Ljava/lang/Class;"⟩ ∈ lw_all) (qi : Cond.instanceMethod ⟨"java/lang/Object", "getClass", "()Ljava/lang/Class;"⟩ ∈ lw_all) (qn : Cond.native ⟨"java/lang/Object", "getClass", "()Ljava/lang/Class;"⟩ ∈ lw_all) (hfr : 1 ≤ tM.fr E) (hlo : (ts.map kCat).sum + 14 ≤ tM.lo E) (hd : decode (tM.cc E) pc = .ok (.invokevirtual idx, 3)) (hK : tSx E (pc + 3) lt (2 :: ts) K) : tSx E pc lt (2 :: ts) (mx_getC K) :=
  tSd.step (K := K.1.1) hK fun L S h r hB hS hL => by
    match S, hB, hS with
    | x :: S', hB, hS =>
      have hB : (if h.2.2.1 x = 1010 then K.1.1 L (h.1.1 0 4 :: S') h else none) = some r := hB
      split at hB
      · rename_i hp
        refine ⟨L, _, hB, by simpa using hS, hL, fun pr l e R s m args below meth cd n0 u0 fin hC hW ls H locs g1 g2 g3 => ?_⟩
        obtain ⟨a, rfl, ha, f1, f2, f3⟩ := g2.arrO (k := 10) (by decide) hp rfl
        have hw := hW ls H locs g1 g2 g3
        have hts := hC.2.2.2.2.1
        obtain ⟨z1, z2, z3⟩ := hC.2.2.2.2.2.2.2.2.2.2.2.2.2.2.1.2.2.2.1
        have e4 : h.1.1 0 4 = (((tM.D E).2.1 3000 4 : Nat) : Int) := g2.2.2 4
        rw [tSt_cons, e4, tE_gh z1] at hw
        rw [tSt_cons, tE_ptr]
        refine va_getC hC.1 hC.2.1 (by rw [hC.2.2.1]; exact g1.1.symm) hC.2.2.2.1 (hts _ q1) (va_Dc.use z3) (hts _ qs) (hts _ qi) (hts _ qn) z2 ⟨_, f3, rfl, va_nmO (hC.2.2.2.2.2.1.2 10 _ rfl).2 rfl⟩ (Nat.le_trans hfr hC.2.2.2.2.2.2.2.1) ?_ hd hw
        rw [tSt_cat _ _ (by simpa using hS)]
        exact Nat.le_trans hlo hC.2.2.2.2.2.2.2.2.1
      · cases hB
theorem ms_cache (hd : decode (tM.cc E) pc = .ok (.aaload, 1)) (hK : tSx E (pc + 1) lt (2 :: ts) K) : tSx E pc lt (0 :: 2 :: ts) (mx_cache K) :=
  tSd.step (K := K.1.1) hK fun L S h r hB hS hL => by
    match S, hB, hS with
    | i :: x :: S', hB, hS =>
      have hB : (if x = h.1.1 0 1 ∧ 0 ≤ i ∧ i < 256 then K.1.1 L (h.1.1 0 (100 + i) :: S') h else none) = some r := hB
      split at hB
      · rename_i hp
        obtain ⟨hx, i0, i1⟩ := hp
        refine ⟨L, _, hB, by simpa using hS, hL, fun pr l e R s m args below meth cd n0 u0 fin hC hW ls H locs g1 g2 g3 => ?_⟩
        have hw := hW ls H locs g1 g2 g3
        obtain ⟨z1, cell, c1, c2, c3, c4, c5, c6, c7⟩ := hC.2.2.2.2.2.2.2.2.2.2.2.2.2.2.1.2.2.2.2
        obtain ⟨j1, j2, j3⟩ := t_pos i0 (by omega)
        have e1 : h.1.1 0 1 = (((tM.D E).2.1 3000 1 : Nat) : Int) := g2.2.2 1
        have e2 : h.1.1 0 (100 + i) = (((tM.D E).2.1 3000 (100 + i.toNat) : Nat) : Int) := by
          rw [← g2.2.2 (100 + i.toNat)]
          exact congrArg (h.1.1 0) (by omega)
        rw [tSt_cons, e2] at hw
        rw [tSt_cons, tSt_cons, hx, e1, tE_gh z1]
        refine W.aald hC.1 hC.2.1 (by rw [g3.2.1 _ (Array.getElem?_eq_some_iff.mp c1).1 c7]; exact c1) c2 rfl c3 (fun z => z.elim j2 (fun z => by rw [j1] at z; omega)) (v := tE 2 (((tM.D E).2.1 3000 (100 + i.toNat) : Nat) : Int)) ?_ rfl rfl hd hw
        rw [j1]
        exact c6 _ (by omega)
      · cases hB
theorem ms_clone {idx : Nat} (q1 : Cond.methodLink (tM.own E) idx ⟨"[B", "clone", "()Ljava/lang/Object;"⟩ ∈ lw_all) (q2 : Cond.sameMethod "[B" "java/lang/Object" "clone" "()Ljava/lang/Object;" ∈ lw_all) (q3 : Cond.native ⟨"java/lang/Object", "clone", "()Ljava/lang/Object;"⟩ ∈ lw_all) (q4 : Cond.instanceMethod ⟨"java/lang/Object", "clone", "()Ljava/lang/Object;"⟩ ∈ lw_all) (q5 : Cond.selects "[B" ⟨"[B", "clone", "()Ljava/lang/Object;"⟩ ⟨"java/lang/Object", "clone", "()Ljava/lang/Object;"⟩ ∈ lw_all) (q6 : Cond.castable "[B" "java/lang/Cloneable" ∈ lw_tbl) (hfr : 1 ≤ tM.fr E) (hlo : (ts.map kCat).sum + 14 ≤ tM.lo E) (hd : decode (tM.cc E) pc = .ok (.invokevirtual idx, 3)) (hK : tSx E (pc + 3) lt (2 :: ts) K) : tSx E pc lt (2 :: ts) (mx_clone K) :=
  tSd.stepG (K := K.1.1) hK fun L S h r hB hS hL => by
    match S, hB, hS with
    | x :: S', hB, hS =>
      have hB : @ite _ (h.2.2.1 x = 1003 ∧ 0 ≤ h.2.1 x ∧ ∀ i, 0 ≤ i → i < h.2.1 x → (-128 ≤ h.1.2 x i ∧ h.1.2 x i ≤ 127)) (Classical.propDecidable _) (K.1.1 L (h.2.2.2.1 :: S') (tCl h x)) none = some r := hB
      split at hB
      · rename_i hp
        obtain ⟨hp, hl0, hfit⟩ := hp
        have hp0 : h.2.2.1 x = 1000 + 3 := hp
        refine ⟨L, _, _, hB, by simpa using hS, hL, by show h.2.2.2.1 ≤ h.2.2.2.1 + 1; omega, by show h.2.2.2.2 ≤ h.2.2.2.2 + h.2.1 x; omega, fun pr l e R s m args below meth cd n0 u0 fin hC a1 a2 a3 a4 a5 a6 hW ls H locs g1 g2 g3 => ?_⟩
        obtain ⟨a, rfl, ha, hb, f1, f2, f3⟩ := g2.arr (k := 3) (by decide) hp0 rfl
        have hts := hC.2.2.2.2.1
        have e0 := g2.1
        have e3 : (tCl h ((a : Int) + 1)).2.2.2.1 = h.2.2.2.1 + 1 := rfl
        have e4 : (tCl h ((a : Int) + 1)).2.2.2.2 = h.2.2.2.2 + h.2.1 ((a : Int) + 1) := rfl
        rw [e3] at a3
        rw [e4] at a4
        rw [tSt_cons, tE_ptr]
        intro T hT X
        have hA := (hC.2.2.2.2.2.1.2 3 _ rfl).1
        obtain ⟨-, kS, hkS, compS, hkindS⟩ := hA 0 (fun _ => .null)
        obtain ⟨-, kA, hkA, comp, hkind⟩ := State.isArrayOf_alike X.warmed.alike (hA 0 (fun _ => .null))
        obtain ⟨c0, t0', z1, z2, z3⟩ := Cond.castable_spec (va_Nw.use (A := #[]) rfl (hC.2.2.2.2.2.2.2.2.2.2.2.2.2.1 _ q6 rfl))
        have hnm : s.vm.findClass "[B" = some ((tM.D E).2.2 3) := (hC.2.2.2.2.2.1.2 3 _ rfl).2
        cases hnm.symm.trans z1
        have hlen : S'.length = ts.length := by simpa using hS
        obtain ⟨vm', X', st⟩ := X.cloneArray hC.1 hC.2.2.2.1 (hts _ q1) (hts _ q2) (hts _ q3) (hts _ q4) (hts _ q5) (a := a) (cell := arrV ((tM.D E).2.2 3) (h.2.1 ((a : Int) + 1)).toNat (fun j => tE (kdF .byte) (h.1.2 ((a : Int) + 1) j))) (by rw [hT]; exact f3) (fun k h => by cases h) (fun h => by cases h) hnm z2 z3
          (fun i v hv => by
            have hk' : T.vm.classes[(tM.D E).2.2 3]? = some kA := hkA
            have hi : i < (h.2.1 ((a : Int) + 1)).toNat := by
              have := (Array.getElem?_eq_some_iff.mp hv).1
              rw [arrV_size] at this
              exact this
            rw [arrV_read _ _ hi] at hv
            cases hv
            have hq := (okF_spec (t := .byte) (decide_eq_true (hfit i (by omega) (by omega)))).2
            show T.fitsSlot ((tM.D E).2.2 3) .none i _ = true
            simpa [State.fitsSlot, State.slotType?, hk', hkind] using hq)
          (g := F0 m pc ls (.ref a :: tSt ts S')) rfl (by rw [hC.2.2.1]; exact g1.1) rfl (by rw [hC.2.1]; exact hd) (Nat.le_trans hfr hC.2.2.2.2.2.2.2.1) (by
            show 2 * 0 + _ + 14 ≤ _
            rw [tSt_cat _ _ hlen]
            have := Nat.le_trans hlo hC.2.2.2.2.2.2.2.2.1
            omega) (by omega) (by rw [arrV_size]; omega) (hloader := Vm.clonesLoader_of_array hkS hkindS)
        rw [arrV_size] at X'
        have hcellE : ({ cls := (arrV ((tM.D E).2.2 3) (h.2.1 ((a : Int) + 1)).toNat (fun j => tE (kdF .byte) (h.1.2 ((a : Int) + 1) j))).cls, slots := (arrV ((tM.D E).2.2 3) (h.2.1 ((a : Int) + 1)).toNat (fun j => tE (kdF .byte) (h.1.2 ((a : Int) + 1) j))).slots } : Cell) = arrV ((tM.D E).2.2 3) (h.2.1 ((a : Int) + 1)).toNat (fun j => tE (kdF .byte) (h.1.2 ((a : Int) + 1) j)) := rfl
        rw [hcellE] at X' st
        generalize hcell : arrV ((tM.D E).2.2 3) (h.2.1 ((a : Int) + 1)).toNat (fun j => tE (kdF .byte) (h.1.2 ((a : Int) + 1) j)) = cell1 at X' st
        have hz : (H.push cell1).size = H.size + 1 := by simp
        have ho : ∀ q : Nat, q < H.size → (H.push cell1)[q]? = H[q]? := fun q hq => by rw [Array.getElem?_push_lt hq, Array.getElem?_eq_getElem hq]
        have hne : ((a : Int) + 1) ≠ h.2.2.2.1 := by omega
        have hR' : tR (tM.D E) (tM.b0 E) (tCl h ((a : Int) + 1)) (H.push cell1) := by
          refine g2.grow (Nat.le_trans hC.2.2.2.2.2.2.1 g3.1) hz ho (fun q hq => ⟨?_, ?_, ?_, ?_⟩) rfl ?_
          · funext j; exact if_neg hq
          · funext j
            show (if q = h.2.2.2.1 then _ else if q = h.2.2.2.1 then _ else _) = _
            rw [if_neg hq, if_neg hq]
          · exact if_neg hq
          · exact if_neg hq
          · have t1 : (tCl h ((a : Int) + 1)).2.2.1 ((H.size : Int) + 1) = 1000 + 3 := if_pos (by omega)
            have t2 : (tCl h ((a : Int) + 1)).2.1 ((H.size : Int) + 1) = h.2.1 ((a : Int) + 1) := if_pos (by omega)
            refine t_arrOK (by decide) t1 rfl (by rw [t2]; exact f1) (by rw [t2]; exact f2) ?_
            rw [t2, Array.getElem?_push_size, ← hcell]
            congr 2
            funext j
            have t3 : (tCl h ((a : Int) + 1)).1.2 ((H.size : Int) + 1) j = h.1.2 ((a : Int) + 1) j := if_pos (by omega)
            rw [t3]
        have hw := hW ls _ locs g1 hR' (va_S.push1 g3 hz ho)
        rw [tSt_cons, tE_next g2, e3, e4] at hw
        obtain ⟨t1, b1, b2⟩ := W.cs (by omega) (by omega) hw ((T.setVm vm').pushCell cell1) (by rw [← hT]; rfl) X'
        refine ⟨t1, st t1 ?_, b2⟩
        rw [hT]
        exact b1
      · cases hB
end TX4
