/-! T, more: exceptions -/
theorem zq180 : (Jvm.Cond.initialized "java/lang/Throwable") ∈ lw_all := lw_g (lw_at lw_m1 3 rfl) rfl
theorem zq263 : (Jvm.Cond.declares ({ cls := "java/lang/Throwable", name := "<init>", desc := "()V" } : Jvm.MethodName)) ∈ lw_tbl := lw_at lw_m1 86 rfl
theorem zq261 : (Jvm.Cond.declares ({ cls := "java/lang/Exception", name := "<init>", desc := "()V" } : Jvm.MethodName)) ∈ lw_tbl := lw_at lw_m1 84 rfl
theorem zq259 : (Jvm.Cond.declares ({ cls := "java/lang/RuntimeException", name := "<init>", desc := "()V" } : Jvm.MethodName)) ∈ lw_tbl := lw_at lw_m1 82 rfl
theorem zq268 : (Jvm.Cond.lays "java/lang/Throwable" "java/lang/Throwable" "cause" "Ljava/lang/Throwable;") ∈ lw_all := lw_g (lw_at lw_m1 91 rfl) rfl
theorem zq270 : (Jvm.Cond.lays "java/lang/Throwable" "java/lang/Throwable" "stackTrace" "[Ljava/lang/StackTraceElement;") ∈ lw_all := lw_g (lw_at lw_m1 93 rfl) rfl
theorem zq272 : (Jvm.Cond.lays "java/lang/Throwable" "java/lang/Throwable" "suppressedExceptions" "Ljava/util/List;") ∈ lw_all := lw_g (lw_at lw_m1 95 rfl) rfl
theorem zq274 : (Jvm.Cond.lays "java/lang/Throwable" "java/lang/Throwable" "detailMessage" "Ljava/lang/String;") ∈ lw_all := lw_g (lw_at lw_m1 97 rfl) rfl
theorem zq276 : (Jvm.Cond.lays "java/lang/Throwable" "java/lang/Throwable" "backtrace" "Ljava/lang/Object;") ∈ lw_all := lw_g (lw_at lw_m1 99 rfl) rfl
theorem zq277 : (Jvm.Cond.fieldLink "java/lang/Throwable" (198 : Nat) "java/lang/Throwable" "backtrace" "Ljava/lang/Object;") ∈ lw_all := lw_g (lw_at lw_m1 100 rfl) rfl
theorem zq278 : (Jvm.Cond.superclass "java/lang/Throwable" "java/lang/Object") ∈ lw_all := lw_g (lw_at lw_m1 101 rfl) rfl
theorem zq279 : (Jvm.Cond.instanceMethod ({ cls := "java/lang/Throwable", name := "<init>", desc := "()V" } : Jvm.MethodName)) ∈ lw_all := lw_g (lw_at lw_m1 102 rfl) rfl
theorem zq280 : (Jvm.Cond.code ({ cls := "java/lang/Throwable", name := "<init>", desc := "()V" } : Jvm.MethodName) prog_65_method_1_code (1 : Nat) (Option.none : Option Jvm.ClassFile.FieldType)) ∈ lw_all := lw_g (lw_at lw_m1 103 rfl) rfl
theorem zq281 : (Jvm.Cond.methodLink "java/lang/Throwable" (1 : Nat) ({ cls := "java/lang/Object", name := "<init>", desc := "()V" } : Jvm.MethodName)) ∈ lw_all := lw_g (lw_at lw_m1 104 rfl) rfl
theorem zq282 : (Jvm.Cond.fieldLink "java/lang/Throwable" (13 : Nat) "java/lang/Throwable" "UNASSIGNED_STACK" "[Ljava/lang/StackTraceElement;") ∈ lw_all := lw_g (lw_at lw_m1 105 rfl) rfl
theorem zq284 : (Jvm.Cond.fieldLink "java/lang/Throwable" (20 : Nat) "java/lang/Throwable" "SUPPRESSED_SENTINEL" "Ljava/util/List;") ∈ lw_all := lw_g (lw_at lw_m1 107 rfl) rfl
theorem zq286 : (Jvm.Cond.methodLink "java/lang/Throwable" (27 : Nat) ({ cls := "java/lang/Throwable", name := "fillInStackTrace", desc := "()Ljava/lang/Throwable;" } : Jvm.MethodName)) ∈ lw_all := lw_g (lw_at lw_m1 109 rfl) rfl
theorem zq287 : (Jvm.Cond.instanceMethod ({ cls := "java/lang/Throwable", name := "fillInStackTrace", desc := "()Ljava/lang/Throwable;" } : Jvm.MethodName)) ∈ lw_all := lw_g (lw_at lw_m1 110 rfl) rfl
theorem zq289 : (Jvm.Cond.codeSync ({ cls := "java/lang/Throwable", name := "fillInStackTrace", desc := "()Ljava/lang/Throwable;" } : Jvm.MethodName) prog_65_method_18_code (1 : Nat) (Option.some (Jvm.ClassFile.FieldType.object "java/lang/Throwable"))) ∈ lw_all := lw_g (lw_at lw_m1 112 rfl) rfl
theorem zq290 : (Jvm.Cond.methodLink "java/lang/Throwable" (202 : Nat) ({ cls := "java/lang/Throwable", name := "fillInStackTrace", desc := "(I)Ljava/lang/Throwable;" } : Jvm.MethodName)) ∈ lw_all := lw_g (lw_at lw_m1 113 rfl) rfl
theorem zq292 : (Jvm.Cond.instanceMethod ({ cls := "java/lang/Throwable", name := "fillInStackTrace", desc := "(I)Ljava/lang/Throwable;" } : Jvm.MethodName)) ∈ lw_all := lw_g (lw_at lw_m1 115 rfl) rfl
theorem zq294 : (Jvm.Cond.native ({ cls := "java/lang/Throwable", name := "fillInStackTrace", desc := "(I)Ljava/lang/Throwable;" } : Jvm.MethodName)) ∈ lw_all := lw_g (lw_at lw_m1 117 rfl) rfl
theorem zq306 : (Jvm.Cond.fieldLink "java/lang/Throwable" (7 : Nat) "java/lang/Throwable" "cause" "Ljava/lang/Throwable;") ∈ lw_all := lw_g (lw_at lw_m1 129 rfl) rfl
theorem zq307 : (Jvm.Cond.fieldLink "java/lang/Throwable" (17 : Nat) "java/lang/Throwable" "stackTrace" "[Ljava/lang/StackTraceElement;") ∈ lw_all := lw_g (lw_at lw_m1 130 rfl) rfl
theorem zq308 : (Jvm.Cond.fieldLink "java/lang/Throwable" (24 : Nat) "java/lang/Throwable" "suppressedExceptions" "Ljava/util/List;") ∈ lw_all := lw_g (lw_at lw_m1 131 rfl) rfl
theorem zq302 : (Jvm.Cond.instanceMethod ({ cls := "java/lang/Exception", name := "<init>", desc := "()V" } : Jvm.MethodName)) ∈ lw_all := lw_g (lw_at lw_m1 125 rfl) rfl
theorem zq303 : (Jvm.Cond.code ({ cls := "java/lang/Exception", name := "<init>", desc := "()V" } : Jvm.MethodName) prog_51_method_1_code (1 : Nat) (Option.none : Option Jvm.ClassFile.FieldType)) ∈ lw_all := lw_g (lw_at lw_m1 126 rfl) rfl
theorem zq304 : (Jvm.Cond.methodLink "java/lang/Exception" (1 : Nat) ({ cls := "java/lang/Throwable", name := "<init>", desc := "()V" } : Jvm.MethodName)) ∈ lw_all := lw_g (lw_at lw_m1 127 rfl) rfl
theorem zq299 : (Jvm.Cond.instanceMethod ({ cls := "java/lang/RuntimeException", name := "<init>", desc := "()V" } : Jvm.MethodName)) ∈ lw_all := lw_g (lw_at lw_m1 122 rfl) rfl
theorem zq300 : (Jvm.Cond.code ({ cls := "java/lang/RuntimeException", name := "<init>", desc := "()V" } : Jvm.MethodName) prog_58_method_1_code (1 : Nat) (Option.none : Option Jvm.ClassFile.FieldType)) ∈ lw_all := lw_g (lw_at lw_m1 123 rfl) rfl
theorem zq301 : (Jvm.Cond.methodLink "java/lang/RuntimeException" (1 : Nat) ({ cls := "java/lang/Exception", name := "<init>", desc := "()V" } : Jvm.MethodName)) ∈ lw_all := lw_g (lw_at lw_m1 124 rfl) rfl
theorem zq183 : (Jvm.Cond.initialized "java/lang/IllegalStateException") ∈ lw_all := lw_g (lw_at lw_m1 6 rfl) rfl
theorem zq257 : (Jvm.Cond.instantiable "java/lang/IllegalStateException" (6 : Nat)) ∈ lw_all := lw_g (lw_at lw_m1 80 rfl) rfl
theorem zq265 : (Jvm.Cond.selects "java/lang/IllegalStateException" ({ cls := "java/lang/Throwable", name := "fillInStackTrace", desc := "(I)Ljava/lang/Throwable;" } : Jvm.MethodName) ({ cls := "java/lang/Throwable", name := "fillInStackTrace", desc := "(I)Ljava/lang/Throwable;" } : Jvm.MethodName)) ∈ lw_all := lw_g (lw_at lw_m1 88 rfl) rfl
theorem zq266 : (Jvm.Cond.selects "java/lang/IllegalStateException" ({ cls := "java/lang/Throwable", name := "fillInStackTrace", desc := "()Ljava/lang/Throwable;" } : Jvm.MethodName) ({ cls := "java/lang/Throwable", name := "fillInStackTrace", desc := "()Ljava/lang/Throwable;" } : Jvm.MethodName)) ∈ lw_all := lw_g (lw_at lw_m1 89 rfl) rfl
theorem zq267 : (Jvm.Cond.lays "java/lang/IllegalStateException" "java/lang/Throwable" "cause" "Ljava/lang/Throwable;") ∈ lw_all := lw_g (lw_at lw_m1 90 rfl) rfl
theorem zq269 : (Jvm.Cond.lays "java/lang/IllegalStateException" "java/lang/Throwable" "stackTrace" "[Ljava/lang/StackTraceElement;") ∈ lw_all := lw_g (lw_at lw_m1 92 rfl) rfl
theorem zq271 : (Jvm.Cond.lays "java/lang/IllegalStateException" "java/lang/Throwable" "suppressedExceptions" "Ljava/util/List;") ∈ lw_all := lw_g (lw_at lw_m1 94 rfl) rfl
theorem zq273 : (Jvm.Cond.lays "java/lang/IllegalStateException" "java/lang/Throwable" "detailMessage" "Ljava/lang/String;") ∈ lw_all := lw_g (lw_at lw_m1 96 rfl) rfl
theorem zq275 : (Jvm.Cond.lays "java/lang/IllegalStateException" "java/lang/Throwable" "backtrace" "Ljava/lang/Object;") ∈ lw_all := lw_g (lw_at lw_m1 98 rfl) rfl
theorem zq296 : (Jvm.Cond.instanceMethod ({ cls := "java/lang/IllegalStateException", name := "<init>", desc := "()V" } : Jvm.MethodName)) ∈ lw_all := lw_g (lw_at lw_m1 119 rfl) rfl
theorem zq297 : (Jvm.Cond.code ({ cls := "java/lang/IllegalStateException", name := "<init>", desc := "()V" } : Jvm.MethodName) prog_52_method_1_code (1 : Nat) (Option.none : Option Jvm.ClassFile.FieldType)) ∈ lw_all := lw_g (lw_at lw_m1 120 rfl) rfl
theorem zq298 : (Jvm.Cond.methodLink "java/lang/IllegalStateException" (1 : Nat) ({ cls := "java/lang/RuntimeException", name := "<init>", desc := "()V" } : Jvm.MethodName)) ∈ lw_all := lw_g (lw_at lw_m1 121 rfl) rfl
theorem zOI : (Jvm.Cond.instanceMethod ({ cls := "java/lang/Object", name := "<init>", desc := "()V" } : Jvm.MethodName)) ∈ lw_all := lw_g (lw_at lw_m1 71 rfl) rfl
theorem zOC : (Jvm.Cond.code ({ cls := "java/lang/Object", name := "<init>", desc := "()V" } : Jvm.MethodName) object_method_1_code (1 : Nat) (Option.none : Option Jvm.ClassFile.FieldType)) ∈ lw_all := lw_g (lw_at lw_m1 72 rfl) rfl
theorem exT : ∀ a ∈ Bundle.throwableAtoms, a ∈ lw_all ∨ (∃ n d, a = .laysStatic "java/lang/Throwable" n d ∧ ((n = "UNASSIGNED_STACK" ∧ d = "[Ljava/lang/StackTraceElement;") ∨ (n = "SUPPRESSED_SENTINEL" ∧ d = "Ljava/util/List;"))) := by
  intro a ha
  simp only [Bundle.throwableAtoms, List.mem_cons, List.not_mem_nil, or_false] at ha
  rcases ha with rfl | rfl | rfl | rfl | rfl | rfl | rfl | rfl | rfl | rfl | rfl | rfl | rfl | rfl | rfl | rfl | rfl | rfl | rfl | rfl | rfl | rfl | rfl | rfl
  · exact Or.inl zq180
  · exact Or.inl zq278
  · exact Or.inl zq287
  · exact Or.inl zq289
  · exact Or.inl zq292
  · exact Or.inl zq294
  · exact Or.inl zq279
  · exact Or.inl zq280
  · exact Or.inl zOI
  · exact Or.inl zOC
  · exact Or.inl zq281
  · exact Or.inl zq286
  · exact Or.inl zq290
  · exact Or.inl zq306
  · exact Or.inl zq268
  · exact Or.inl zq307
  · exact Or.inl zq270
  · exact Or.inl zq308
  · exact Or.inl zq272
  · exact Or.inl zq282
  · exact Or.inr ⟨_, _, rfl, Or.inl ⟨rfl, rfl⟩⟩
  · exact Or.inl zq284
  · exact Or.inr ⟨_, _, rfl, Or.inr ⟨rfl, rfl⟩⟩
  · exact Or.inl zq274
theorem exC : ∀ a ∈ Bundle.chain0Atoms "java/lang/IllegalStateException" ["java/lang/RuntimeException", "java/lang/Exception"], a ∈ lw_all ∨ (a ∈ lw_tbl ∧ ∃ y, a = .declares y) := by
  intro a ha
  simp only [Bundle.chain0Atoms, Bundle.passAtoms, List.cons_append, List.nil_append, List.mem_cons, List.not_mem_nil, or_false] at ha
  rcases ha with rfl | rfl | rfl | rfl | rfl | rfl | rfl | rfl | rfl | rfl | rfl | rfl | rfl | rfl | rfl
  · exact Or.inl zq296
  · exact Or.inl zq297
  · exact Or.inl zq298
  · exact Or.inl zq299
  · exact Or.inr ⟨zq259, _, rfl⟩
  · exact Or.inl zq299
  · exact Or.inl zq300
  · exact Or.inl zq301
  · exact Or.inl zq302
  · exact Or.inr ⟨zq261, _, rfl⟩
  · exact Or.inl zq302
  · exact Or.inl zq303
  · exact Or.inl zq304
  · exact Or.inl zq279
  · exact Or.inr ⟨zq263, _, rfl⟩
theorem tE_isRef (x : Int) : (tE 2 x).isRef = true := by
  by_cases h : x = 0
  · subst h; rfl
  · rw [tE_ref h]; rfl
/-- a new IllegalStateException, made whole -/
def tExc (h : tH) : tH := tPut (tPut (tPut (tNew h 44 0 6) h.2.2.2.1 0 h.2.2.2.1) h.2.2.2.1 1 (h.1.1 0 2)) h.2.2.2.1 2 (h.1.1 0 3)
def o_nexc (K : tB) : tB := fun L S h => K L (h.2.2.2.1 :: S) (tExc h)
def mx_nexc (K : tX) : tX := ⟨(o_nexc K.1.1, fun L S h J R => K.1.2 L (h.2.2.2.1 :: S) (tExc h) J R), fun L S h J R H => K.2 _ _ _ _ _ H⟩
section TX5
variable {E : tM} {pc : Nat} {lt : List (Nat × Nat)} {ts : List Nat} {K : tX}
theorem ms_nexc {i1 i2 : Nat} (hd0 : decode (tM.cc E) pc = .ok (.new i1, 3)) (hd3 : decode (tM.cc E) (pc + 3) = .ok (.dup, 1)) (hd4 : decode (tM.cc E) (pc + 3 + 1) = .ok (.invokespecial i2, 3)) (hcl : Cond.classLink (tM.own E) i1 RJ3 ∈ lw_all) (hml : Cond.methodLink (tM.own E) i2 ⟨"java/lang/IllegalStateException", "<init>", "()V"⟩ ∈ lw_all) (hfr : 6 ≤ tM.fr E) (hlo : (ts.map kCat).sum + 100 ≤ tM.lo E) (hK : tSx E (pc + 7) lt (2 :: ts) K) : tSx E pc lt ts (mx_nexc K) :=
  tSd.stepG (K := K.1.1) hK fun L S h r hB hS hL => by
    refine ⟨L, _, tExc h, hB, by simp [hS], hL, by show h.2.2.2.1 ≤ h.2.2.2.1 + 1; omega, by show h.2.2.2.2 ≤ h.2.2.2.2 + 6; omega, fun pr l e R s m args below meth cd n0 u0 fin hC a1 a2 a3 a4 a5 a6 hW ls H locs g1 g2 g3 => ?_⟩
    have hts := hC.2.2.2.2.1
    have hc : xcl 44 = some (RJ3, TJ3, 6) := rfl
    have hKn := hC.2.2.2.2.2.1.1 44 _ hc
    obtain ⟨hin, hnm, hty⟩ := xcl_ok 44 _ hc
    have hap := t_apart hts hC.2.2.2.2.2.1 hc
    have e0 := g2.1
    have e3 : (tExc h).2.2.2.1 = h.2.2.2.1 + 1 := rfl
    have e4 : (tExc h).2.2.2.2 = h.2.2.2.2 + 6 := rfl
    rw [e3] at a3
    rw [e4] at a4
    refine W.newcK hC.1 hC.2.1 hC.2.2.2.1 (hts _ hcl) (hts _ zq257) (hts _ zq183) rfl hd0 (by omega) (by omega) hKn.2.1 rfl (fun H1 kC hkC f1 f2 f3 => ?_)
    refine lv_dup hC.1 hC.2.1 hd3 rfl ?_
    intro T hT X
    have howns : e.platform.frameOwnsMonitors = true := by rw [X.admits.platform]
    have hfin : e.platform.finalization = false := by rw [X.admits.platform]
    have hpl : e.platform.magicAccessors = ({} : Platform).magicAccessors := by rw [X.admits.platform]
    have hst : e.platform.stackTraces = false := by rw [X.admits.platform]; exact hC.2.2.2.2.2.2.2.2.2.2.2.2.2.2.2
    have hZ := hC.2.2.2.2.2.2.2.2.2.2.2.2.2.2.1
    have hKw := hC.2.2.2.2.2.2.2.2.2.2.2.2.2.1
    have hat : ∀ x ∈ Bundle.throwableAtoms, x.before args s = true := fun x hx => by
      rcases exT x hx with z | ⟨n, d, rfl, ⟨rfl, rfl⟩ | ⟨rfl, rfl⟩⟩
      · exact hts _ z
      · exact hZ.2.1.2.2.1 args s rfl (fun _ _ _ => rfl)
      · exact hZ.2.1.2.2.2 args s rfl (fun _ _ _ => rfl)
    obtain ⟨Tc, Z, L', LZ, Y⟩ := ThrowableC.of_atoms (args := args) howns hfin hpl hat
    obtain ⟨P1, Ps, hlen, L1, hL1, hP1m, hlink1, hlink⟩ := Bundle.chain0 (args := args) hpl Y.init0 ["java/lang/RuntimeException", "java/lang/Exception"] "java/lang/IllegalStateException" (by decide +kernel) (by decide +kernel) (fun x hx => by
      rcases exC x hx with z | ⟨z, y, rfl⟩
      · exact hts _ z
      · exact va_Nw.use (A := args) rfl (hKw _ z rfl))
    have hfound : s.vm.findClass RJ3 = some P1.m.cls := findClass_of_methodNamed hP1m
    have hcls : (tM.D E).1 44 = P1.m.cls := Option.some.inj (hKn.2.1.symm.trans hfound)
    have hk : s.vm.classes[P1.m.cls]? = some kC := by rw [← hcls]; exact hkC
    obtain ⟨c1, kX', hc1, hk', hord, -, -, hn6⟩ := Cond.instantiable_spec (hts _ zq257)
    cases hc1.symm.trans hfound
    cases hk'.symm.trans hk
    have hcellE : H1[H.size]? = some (freshCell P1.m.cls kC) := by rw [f1, hcls]; rfl
    have hsel0 : selectMethod e.platform s.vm P1.m.cls Tc.fill0 = .method Tc.fill0 := by
      obtain ⟨c2, r2, m2, q1, q2, q3, q4, -⟩ := Cond.selects_spec (hts _ zq265)
      cases q1.symm.trans hfound
      cases q2.symm.trans (State.methodFound?_of_named Y.fill0 (by decide))
      cases q3.symm.trans Y.fill0
      rw [Launch.admits_selectMethod X.admits]; exact q4
    have hselF : selectMethod e.platform s.vm P1.m.cls Tc.fill = .method Tc.fill := by
      obtain ⟨c2, r2, m2, q1, q2, q3, q4, -⟩ := Cond.selects_spec (hts _ zq266)
      cases q1.symm.trans hfound
      cases q2.symm.trans (State.methodFound?_of_named Y.fill (by decide))
      cases q3.symm.trans Y.fill
      rw [Launch.admits_selectMethod X.admits]; exact q4
    obtain ⟨cf, kf, fi, fU, aS, cellS, y1, y2, y3, y4, y5, y6, y7, y8⟩ := hZ.1 ("java/lang/Throwable", "UNASSIGNED_STACK", "[Ljava/lang/StackTraceElement;", 2) (by simp [zSt])
    obtain ⟨cf2, kf2, fi2, fP, aS2, cellS2, w1, w2, w3, w4, w5, w6, w7, w8⟩ := hZ.1 ("java/lang/Throwable", "SUPPRESSED_SENTINEL", "Ljava/util/List;", 3) (by simp [zSt])
    have hU := Y.unassigned.symm.trans y1
    have hP := Y.sentinel.symm.trans w1
    simp only [Option.some.injEq, Prod.mk.injEq] at hU hP
    obtain ⟨-, rfl, -, rfl⟩ := hU
    obtain ⟨-, rfl, -, rfl⟩ := hP
    cases y4.symm.trans L'.statics
    cases w4.symm.trans L'.statics
    cases y5.symm.trans w5
    have hltS : Tc.aS < s.heap.size := (Array.getElem?_eq_some_iff.mp y5).1
    have hltH : Tc.aS < H.size := Nat.lt_of_lt_of_le hltS g3.1
    have hcellS : T.heap[Tc.aS]? = some cellS := by rw [hT, f3 _ hltH, g3.2.1 _ hltS y8]; exact y5
    have hneS : Tc.aS ≠ H.size := Nat.ne_of_lt hltH
    have hknownS : cellS.vm ≠ .unknown := fun z => by rw [z] at y6; cases y6
    obtain ⟨ci198, i198, fB, hk198, hg198, ha198, hsB, -, hnB, htB, hffB⟩ := Cond.ownField (t := .object "java/lang/Object") Y.found L'.cls (by decide +kernel) (hts _ zq277) (hts _ zq276) e.platform hpl
    obtain ⟨tyC, dC, hdC, hdnC⟩ := Cond.laysAt hfound hk Y.cause (hts _ zq267)
    obtain ⟨tyS, dS, hdS, hdnS⟩ := Cond.laysAt hfound hk Y.stack (hts _ zq269)
    obtain ⟨tyP, dP, hdP, hdnP⟩ := Cond.laysAt hfound hk Y.supp (hts _ zq271)
    obtain ⟨tyB, dB, hdB, hdnB⟩ := Cond.laysAt hfound hk hffB (hts _ zq275)
    have bC := Cond.laysApart hdB hdC hdnB hdnC (by rw [hnB, Y.causeName]; decide)
    have bS := Cond.laysApart hdB hdS hdnB hdnS (by rw [hnB, Y.stackName]; decide)
    have bP := Cond.laysApart hdB hdP hdnB hdnP (by rw [hnB, Y.suppName]; decide)
    have hskip : SkipFacts Tc e.platform s (fun u => u) ⟨tE 2 (((tM.D E).2.1 3000 2 : Nat) : Int), tE_isRef _⟩ ((preparedCellV Tc.toThrowableT (freshCell P1.m.cls kC) H.size ⟨tE 2 (((tM.D E).2.1 3000 2 : Nat) : Int), tE_isRef _⟩ ⟨tE 2 (((tM.D E).2.1 3000 3 : Nat) : Int), tE_isRef _⟩).withEntry T.cur) :=
      ⟨{ ci198 := ci198, i198 := i198, fBack := fB }, ⟨hk198, hg198, ha198, hsB⟩, by
        have := fresh_default (c := P1.m.cls) tyB
        rw [htB] at this
        simpa [preparedCellV, Cell.setSlot, Cell.withEntry, Array.getElem?_setIfInBounds, bC, bS, bP, bC.symm, bS.symm, bP.symm, defaultValue] using this, fun _ _ => rfl⟩
    obtain ⟨tm, methC, cdC, kC2, vm₁, hnC, -, -, -, -, -, -, -, hW₁, st1⟩ := Steps.initCold (tb := pr.tables) (e := e) (below := below) (s := s) (U := T) X.here hC.1 X.warmed hpl hC.2.2.2.1 (t := ⟨"java/lang/IllegalStateException", "<init>", "()V"⟩) rfl rfl (by decide)
      (hts _ hml) (hts _ zq296) (bytes := Bundle.five) (maxL := 1) (hts _ zq297)
      (f := F0 m (pc + 3 + 1) ls (.ref H.size :: .ref H.size :: tSt ts S)) rfl (a := H.size) (rest := .ref H.size :: tSt ts S) rfl (by rw [hC.2.1]; exact hd4)
    cases hnC.symm.trans hP1m
    have X₁ := X.noted hW₁
    have hlenS : S.length = ts.length := hS
    obtain ⟨vm₂, X₂, st2⟩ := X₁.ctorPlainOffV hC.1 (g := F0 m (pc + 3 + 1) ls (.ref H.size :: tSt ts S)) rfl (by rw [hC.2.2.1]; exact g1.1) Tc L' Z LZ (P1 :: Ps)
      (fun P hP => by rcases List.mem_cons.mp hP with rfl | hP; exact L1; exact hL1 P hP) ⟨hlink1, hlink⟩ (u0 := ⟨tE 2 (((tM.D E).2.1 3000 2 : Nat) : Int), tE_isRef _⟩) (sen := ⟨tE 2 (((tM.D E).2.1 3000 3 : Nat) : Int), tE_isRef _⟩) (self := H.size) (cell := freshCell P1.m.cls kC) (cellS := cellS)
      (by show T.heap[H.size]? = _; rw [hT]; exact hcellE) (fun _ => by simp) (by simp) rfl rfl hsel0 hselF hcellS hneS hknownS y7 w7
      (Takes.of_laid hk hord tyC (by rw [Y.causeType]; rfl)) (Takes.of_laid hk hord tyS (by rw [Y.stackType]; exact fits_refV_array _ _)) (Takes.of_laid hk hord tyP (by rw [Y.suppType]; exact fits_refV_object _ _)) Y.objLocals hskip hst [] (by rw [hC.2.1]; exact hd4)
      (by simp only [List.length_cons, hlen]; have := Nat.le_trans hfr hC.2.2.2.2.2.2.2.1; simp; omega) (by
        show 2 * 0 + ((.ref H.size :: tSt ts S).map fun v => v.category).sum + _ ≤ _
        rw [List.map_cons, List.sum_cons, tSt_cat _ _ hlenS, List.length_cons, hlen]
        have := Nat.le_trans hlo hC.2.2.2.2.2.2.2.2.1
        simp [Value.category]
        omega)
    generalize hu : (⟨tE 2 (((tM.D E).2.1 3000 2 : Nat) : Int), tE_isRef _⟩ : RefV) = u0' at X₂ st2 hskip
    have hu' : u0'.v = tE 2 (h.1.1 0 2) := by
      rw [← hu]
      show tE 2 _ = _
      exact congrArg (tE 2) (g2.2.2 2).symm
    generalize hse : (⟨tE 2 (((tM.D E).2.1 3000 3 : Nat) : Int), tE_isRef _⟩ : RefV) = sen' at X₂ st2 hskip
    have hse' : sen'.v = tE 2 (h.1.1 0 3) := by
      rw [← hse]
      show tE 2 _ = _
      exact congrArg (tE 2) (g2.2.2 3).symm
    obtain ⟨cellF, b1, b2, b3, b4⟩ := u_born (xty 44) hts hin hKn hkC f1 hty
    have hcf : cellF = freshCell P1.m.cls kC := Option.some.inj (b1.symm.trans hcellE)
    rw [hcf] at b2 b3 b4
    have hs0 : Tc.fCause.slot = (tM.D E).2.1 44 0 := by
      obtain ⟨_, _, _, f, hi, hsl⟩ := hKn.1 0 (by decide)
      have := Y.cause.symm.trans hi
      simp only [Option.some.injEq, Prod.mk.injEq] at this
      rw [this.2.2.2]; exact hsl
    have hs1 : Tc.fStack.slot = (tM.D E).2.1 44 1 := by
      obtain ⟨_, _, _, f, hi, hsl⟩ := hKn.1 1 (by decide)
      have := Y.stack.symm.trans hi
      simp only [Option.some.injEq, Prod.mk.injEq] at this
      rw [this.2.2.2]; exact hsl
    have hs2 : Tc.fSupp.slot = (tM.D E).2.1 44 2 := by
      obtain ⟨_, _, _, f, hi, hsl⟩ := hKn.1 2 (by decide)
      have := Y.supp.symm.trans hi
      simp only [Option.some.injEq, Prod.mk.injEq] at this
      rw [this.2.2.2]; exact hsl
    have hb4 := t_set (t_set (t_set (t_set b4 hap (show 0 < 6 by decide) (.ref H.size)) hap (show 1 < 6 by decide) u0'.v) hap (show 2 < 6 by decide) sen'.v) hap (show 1 < 6 by decide) u0'.v
    have hcell9 : (preparedCellV Tc.toThrowableT (freshCell P1.m.cls kC) H.size u0' sen').setSlot Tc.fStack.slot u0'.v = ((((freshCell P1.m.cls kC).setSlot ((tM.D E).2.1 44 0) (.ref H.size)).setSlot ((tM.D E).2.1 44 1) u0'.v).setSlot ((tM.D E).2.1 44 2) sen'.v).setSlot ((tM.D E).2.1 44 1) u0'.v := by
      unfold preparedCellV
      rw [hs0, hs1, hs2]
    rw [hcell9] at X₂ st2
    have hc9v : (((((freshCell P1.m.cls kC).setSlot ((tM.D E).2.1 44 0) (.ref H.size)).setSlot ((tM.D E).2.1 44 1) u0'.v).setSlot ((tM.D E).2.1 44 2) sen'.v).setSlot ((tM.D E).2.1 44 1) u0'.v).vm = .none ∧ (((((freshCell P1.m.cls kC).setSlot ((tM.D E).2.1 44 0) (.ref H.size)).setSlot ((tM.D E).2.1 44 1) u0'.v).setSlot ((tM.D E).2.1 44 2) sen'.v).setSlot ((tM.D E).2.1 44 1) u0'.v).cls = P1.m.cls := ⟨rfl, rfl⟩
    generalize ((((freshCell P1.m.cls kC).setSlot ((tM.D E).2.1 44 0) (.ref H.size)).setSlot ((tM.D E).2.1 44 1) u0'.v).setSlot ((tM.D E).2.1 44 2) sen'.v).setSlot ((tM.D E).2.1 44 1) u0'.v = cell9 at X₂ st2 hb4 hc9v
    have hheap : (((T.setVm vm₁).setVm vm₂).setCell H.size cell9).heap = H1.setIfInBounds H.size cell9 := by rw [← hT]; rfl
    have hz : (H1.setIfInBounds H.size cell9).size = H.size + 1 := by simp [f2]
    have ho : ∀ q : Nat, q < H.size → (H1.setIfInBounds H.size cell9)[q]? = H[q]? := fun q hq => by
      rw [← f3 q hq]
      simp [Array.getElem?_setIfInBounds, Nat.ne_of_gt hq]
    have h9 : (H1.setIfInBounds H.size cell9)[H.size]? = some cell9 := by simp [Array.getElem?_setIfInBounds, f2]
    have ep : ((H.size : Nat) : Int) + 1 = h.2.2.2.1 := by omega
    have hR' : tR (tM.D E) (tM.b0 E) (tExc h) (H1.setIfInBounds H.size cell9) := by
      refine g2.grow (Nat.le_trans hC.2.2.2.2.2.2.1 g3.1) hz ho (fun q hq => ⟨?_, ?_, if_neg hq, if_neg hq⟩) rfl ⟨fun c' q' hc' hq' => ?_, fun k' ty' hk' hy' => ?_⟩
      · funext j
        show (if q = h.2.2.2.1 ∧ j = 2 then _ else if q = h.2.2.2.1 ∧ j = 1 then _ else if q = h.2.2.2.1 ∧ j = 0 then _ else if q = h.2.2.2.1 then _ else _) = _
        rw [if_neg (fun z => hq z.1), if_neg (fun z => hq z.1), if_neg (fun z => hq z.1), if_neg hq]
      · funext j
        exact if_neg hq
      · have t1 : (tExc h).2.2.1 ((H.size : Int) + 1) = 44 := if_pos ep
        have t2 : c' = 44 := hc'.symm.trans t1
        subst t2
        cases hc.symm.trans hq'
        refine t_OB.to ⟨cell9, h9, by rw [hc9v.2, hcls], hc9v.1, hb4⟩ fun j hj => ?_
        rw [ep]
        have hj' : j = 0 ∨ j = 1 ∨ j = 2 ∨ j = 3 ∨ j = 4 ∨ j = 5 := by
          have : j < 6 := hj
          omega
        have hx : ∀ i : Int, i ≠ 0 → i ≠ 1 → i ≠ 2 → (tExc h).1.1 h.2.2.2.1 i = 0 := fun i i0 i1 i2 => by
          show (if h.2.2.2.1 = h.2.2.2.1 ∧ i = 2 then _ else if h.2.2.2.1 = h.2.2.2.1 ∧ i = 1 then _ else if h.2.2.2.1 = h.2.2.2.1 ∧ i = 0 then _ else if h.2.2.2.1 = h.2.2.2.1 then _ else _) = _
          rw [if_neg (fun z => i2 z.2), if_neg (fun z => i1 z.2), if_neg (fun z => i0 z.2), if_pos rfl]
        rcases hj' with rfl | rfl | rfl | rfl | rfl | rfl
        · have : (tExc h).1.1 h.2.2.2.1 ((0 : Nat) : Int) = h.2.2.2.1 := by simp [tExc, tPut]
          rw [this]
          show Value.ref H.size = tE 2 h.2.2.2.1
          exact (tE_next g2).symm
        · have : (tExc h).1.1 h.2.2.2.1 ((1 : Nat) : Int) = h.1.1 0 2 := by simp [tExc, tPut]
          rw [this]
          exact hu'
        · have : (tExc h).1.1 h.2.2.2.1 ((2 : Nat) : Int) = h.1.1 0 3 := by simp [tExc, tPut]
          rw [this]
          exact hse'
        · rw [hx _ (by decide) (by decide) (by decide)]; rfl
        · rw [hx _ (by decide) (by decide) (by decide)]; rfl
        · rw [hx _ (by decide) (by decide) (by decide)]; rfl
      · have t1 : (tExc h).2.2.1 ((H.size : Int) + 1) = 44 := if_pos ep
        omega
    have hS' : va_S (fun q => tM.b0 E ≤ q) s.heap (H1.setIfInBounds H.size cell9) (locs ++ [⟨H.size, Tc.fCause.slot⟩, ⟨H.size, Tc.fStack.slot⟩, ⟨H.size, Tc.fSupp.slot⟩, ⟨H.size, Tc.fStack.slot⟩]) := by
      refine ⟨by rw [hz]; exact Nat.le_succ_of_le g3.1, fun q hq hA => ?_, fun q hq => ?_⟩
      · rw [ho q (Nat.lt_of_lt_of_le hq g3.1)]
        exact g3.2.1 q hq hA
      · rcases List.mem_append.mp hq with z | z
        · exact g3.2.2 q z
        · have : q.base = H.size := by
            simp only [List.mem_cons, List.not_mem_nil, or_false] at z
            rcases z with rfl | rfl | rfl | rfl <;> rfl
          rw [this]
          exact Nat.le_trans hC.2.2.2.2.2.2.1 g3.1
    have hw := hW ls _ _ g1 hR' hS'
    rw [tSt_cons, tE_next g2, e3, e4] at hw
    obtain ⟨t9, c1, c2⟩ := W.cs (cells := (h.2.2.2.1 - n0).toNat + 1) (slots := (h.2.2.2.2 - u0).toNat + 6) (by omega) (by omega) hw _ hheap X₂
    exact ⟨t9, st1 t9 (fun acts => by rw [doInvoke_state]; exact st2 t9 c1), c2⟩
end TX5
