/-! T: a method's contract out of its blocks -/
def tLoc : List Nat → List Int → List Int
  | k :: ks, x :: as => if k = 1 then x :: 0 :: tLoc ks as else x :: tLoc ks as
  | _, _ => []
theorem tLoc_cons (k : Nat) (ks : List Nat) (x : Int) (as : List Int) : tLoc (k :: ks) (x :: as) = if k = 1 then x :: 0 :: tLoc ks as else x :: tLoc ks as := rfl
def ltA : Nat → List Nat → List (Nat × Nat)
  | i, k :: ks => (i, k) :: ltA (i + kCat k) ks
  | _, [] => []
def tFun (ks : List Nat) (nL : Nat) (Bk : Nat → tB) (n : Nat) : tFn := fun as h => tRun Bk n 0 (tLoc ks as ++ List.replicate (nL - (tLoc ks as).length) 0) [] h
theorem tLoc_len : ∀ (ks : List Nat) (as : List Int), as.length = ks.length → (tLoc ks as).length = (ks.map kCat).sum
  | [], [], _ => rfl
  | k :: ks, x :: as, h => by
    have ih := tLoc_len ks as (by simpa using h)
    unfold tLoc
    rw [List.map_cons, List.sum_cons]
    unfold kCat at ih ⊢
    by_cases hk : k = 1
    · rw [if_pos hk, if_pos hk]; simp only [List.length_cons, ih]; omega
    · rw [if_neg hk, if_neg hk]; simp only [List.length_cons, ih]; omega
theorem lg_sl_cons (v : Value) (vs : List Value) : lg_sl (v :: vs) = (if v.category = 2 then [.val v, .second] else [.val v]) ++ lg_sl vs := rfl
theorem sl_len : ∀ (ks : List Nat) (as : List Int), as.length = ks.length → (lg_sl (tSt ks as)).length = (ks.map kCat).sum
  | [], [], _ => rfl
  | k :: ks, x :: as, h => by
    have ih := sl_len ks as (by simpa using h)
    rw [tSt_cons, lg_sl_cons, List.length_append, ih, List.map_cons, List.sum_cons, tE_cat]
    unfold kCat
    by_cases hk : k = 1
    · simp [hk]
    · simp [hk]
theorem tEnt : ∀ (ks : List Nat) (as : List Int) (pre pad : List Int) (q : Nat × Nat), as.length = ks.length → q ∈ ltA pre.length ks → (q.1, tE q.2 ((pre ++ (tLoc ks as ++ pad)).getD q.1 0)) ∈ lv_args pre.length (tSt ks as)
  | [], [], pre, pad, q, _, hq => by cases hq
  | k :: ks, x :: as, pre, pad, q, h, hq => by
    have hl : as.length = ks.length := by simpa using h
    rw [tSt_cons]
    unfold ltA at hq
    unfold lv_args
    rcases List.mem_cons.mp hq with e | hq
    · subst e
      refine List.mem_cons.mpr (Or.inl ?_)
      have h1 : (pre ++ (tLoc (k :: ks) (x :: as) ++ pad)).getD pre.length 0 = x := by
        unfold tLoc
        split <;> simp [List.getD_eq_getElem?_getD]
      show (pre.length, tE k _) = _
      rw [h1]
    · refine List.mem_cons_of_mem _ ?_
      by_cases hk : k = 1
      · have e1 : (pre ++ (tLoc (k :: ks) (x :: as) ++ pad)) = (pre ++ [x, 0]) ++ (tLoc ks as ++ pad) := by
          rw [tLoc_cons, if_pos hk]
          simp
        have e2 : (if (tE k x).category = 2 then pre.length + 2 else pre.length + 1) = (pre ++ [x, 0]).length := by
          rw [tE_cat, if_pos hk]
          simp
        have e3 : pre.length + kCat k = (pre ++ [x, 0]).length := by
          unfold kCat
          rw [if_pos hk]
          simp
        rw [e1, e2]
        rw [e3] at hq
        exact tEnt ks as (pre ++ [x, 0]) pad q hl hq
      · have e1 : (pre ++ (tLoc (k :: ks) (x :: as) ++ pad)) = (pre ++ [x]) ++ (tLoc ks as ++ pad) := by
          rw [tLoc_cons, if_neg hk]
          simp
        have e2 : (if (tE k x).category = 2 then pre.length + 2 else pre.length + 1) = (pre ++ [x]).length := by
          rw [tE_cat, if_neg hk]
          simp
        have e3 : pre.length + kCat k = (pre ++ [x]).length := by
          unfold kCat
          rw [if_neg hk]
          simp
        rw [e1, e2]
        rw [e3] at hq
        exact tEnt ks as (pre ++ [x]) pad q hl hq
theorem tMX.of {D : tD} {b0 : Nat} {y : MethodName} {bytes : ByteArray} {maxL : Nat} {rt : Option FieldType} {ks : List Nat} {fr lo : Nat} {te : Nat → List (Nat × Nat) × List Nat} {ini : Bool} {Bk : Nat → tB} (n : Nat) (hy : plainFor y = true) (hini : ini = true → y.name = "<init>") (hk : (ks.map kCat).sum ≤ maxL) (h0 : (te 0).2 = []) (hl : (te 0).1.all (fun q => tIn (ltA 0 ks) q.1 q.2) = true)
    (hs : ∀ pc, tSd (bytes, maxL, y.cls, te, D, b0, fr, lo, rt, ini, []) pc (te pc).1 (te pc).2 (Bk pc)) : tMX D b0 y (ws_ y bytes maxL rt) rt ks fr lo (tFun ks maxL Bk n) := by
  intro l as h o h' hF hla
  have hlen : (tLoc ks as ++ List.replicate (maxL - (tLoc ks as).length) 0).length = maxL := by
    rw [List.length_append, List.length_replicate, tLoc_len ks as hla]
    omega
  obtain ⟨hmono, hw⟩ := tRun_sound (E := (bytes, maxL, y.cls, te, D, b0, fr, lo, rt, ini, [])) hs n 0 _ [] h (o, h') hF (by show 0 = (te 0).2.length; rw [h0]; rfl) hlen
  refine ⟨hmono, fun hlst => ?_⟩
  refine MetFree.of_bodySF (code := bytes) (maxLocals := maxL) (ret := rt) hy ?_ ?_
  · intro args s m hpre hn
    obtain ⟨meth, c, h1, h2, h3, h4, h5, h6, -, -⟩ := Cond.code_spec hn (atoms_spec (ws := ws_ y bytes maxL rt) hpre _ List.mem_cons_self)
    exact ⟨meth, c, h1, h2, h3, h4, h5, h6⟩
  · intro p e s m args below meth c s₁ B hml hP _
    obtain ⟨rfl, hR, hK, hKw, hb, hZs⟩ := hP
    have hat := atoms_spec (ws := ws_ y bytes maxL rt) B.pre
    have hts : ∀ w ∈ lw_all, w.before _ s = true := fun w h => hat w (List.mem_cons_of_mem _ h)
    have hC : tC (bytes, maxL, y.cls, te, D, b0, fr, lo, rt, ini, []) l p (tRm fr lo h h') s m (tSt ks as).toArray meth c :=
      ⟨B.exec, B.bytes, hml, findClass_of_methodNamed B.named, hts, hK, hb, Nat.le_refl _, Nat.le_refl _, B.notSynchronized, B.returns, fun z => by rw [(name_of_methodNamed B.named B.method).1]; exact hini z, (by
        have hemp := B.noHandlers (hat _ List.mem_cons_self)
        have h0 : c.exceptionTable.toList = [] := by simpa [Array.isEmpty_iff] using hemp
        rw [h0]
        rfl), hKw, hZs, hlst⟩
    have hw0 := hw p l e (tRm fr lo h h') s m (tSt ks as).toArray below meth c h.2.2.2.1 h.2.2.2.2 hC (Int.le_refl _) (Int.le_refl _) rfl rfl
    have hh0 : s₁.heap = s.heap := by rw [B.state]; rfl
    have hent := lv_entry (tSt ks as) (n := maxL) (by rw [sl_len ks as hla]; exact hk)
    have hw1 := hw0 _ s.heap [] ⟨hent.1, hent.2.1, fun q hq => by
      obtain ⟨q', hq', rfl⟩ := List.mem_map.mp hq
      exact hent.2.2 _ (tEnt ks as [] _ q' hla (tIn_mem (List.all_eq_true.mp hl q' hq')))⟩ hR va_S.rf
    have hst : tSt (tM.te (bytes, maxL, y.cls, te, D, b0, fr, lo, rt, ini, []) 0).2 [] = [] := by
      show tSt (te 0).2 [] = []
      rw [h0]
      rfl
    rw [hst, ← lg_entry_eq, Int.sub_self, Int.sub_self] at hw1
    obtain ⟨t, a1, b1⟩ := hw1 s₁ hh0 (Stand.of_body B)
    obtain ⟨c1, c2, c3, c4, c5, c6⟩ := b1
    exact ⟨t, _, a1, c1, c2, rfl, c3, c4, c5, c6⟩
