set_option maxRecDepth 100000
def yJ11_checkIndex : MethodName := ⟨RJ11, "checkIndex", "(IILjava/util/function/BiFunction;)I"⟩
abbrev cJ11_checkIndex : ByteArray := prog_79_method_11_code
noncomputable def bJ11_checkIndex_0 : tX := mx_load 0 (mx_push 0 (mi_lt mx_none (mx_go 4)))
noncomputable def bJ11_checkIndex_4 : tX := mx_load 0 (mx_load 1 (mi_lt (mx_go 16) mx_none))
noncomputable def bJ11_checkIndex_16 : tX := mx_load 0 (mx_ret)
noncomputable def tbJ11_checkIndex : List tTe := [(0, ([(0, 0), (1, 0), (2, 2)], []), bJ11_checkIndex_0), (4, ([(0, 0), (1, 0), (2, 2)], []), bJ11_checkIndex_4), (16, ([(0, 0), (1, 0), (2, 2)], []), bJ11_checkIndex_16)]
noncomputable def bkJ11_checkIndex : Nat → tX := tBk tbJ11_checkIndex
noncomputable def fJ11_checkIndex : tFn := tFN [0, 0, 2] 3 bkJ11_checkIndex
noncomputable def eJ11_checkIndex (D : tD) (b0 : Nat) : tM := (cJ11_checkIndex, 3, RJ11, tTy tbJ11_checkIndex, D, b0, 0, 0, some (.int), false, [])
noncomputable def opsJ11_checkIndex : List tOpE := []
theorem okJ11_checkIndex (D : tD) (b0 : Nat) : ∀ q ∈ opsJ11_checkIndex, OpOK (eJ11_checkIndex D b0) q := (fun q hq => by cases hq)
theorem ckJ11_checkIndex_0 : ckS (tBy cJ11_checkIndex) opsJ11_checkIndex 3 [(1, 0, 0)] 0 [(0, 0), (1, 0), (2, 2)] [] = some (1, [(0, 0), (1, 0), (2, 2)], [0]) := by decide +kernel
theorem hsJ11_checkIndex_0 (D : tD) (b0 : Nat) : tSx (eJ11_checkIndex D b0) 0 [(0, 0), (1, 0), (2, 2)] [] bJ11_checkIndex_0 := ckS_ok (E := eJ11_checkIndex D b0) (T := mx_push 0 (mi_lt mx_none (mx_go 4))) (okJ11_checkIndex D b0) ckJ11_checkIndex_0 (ms_if_lt 9 (tDe (c := cJ11_checkIndex) (pc := 1) (i := .ifCond .lt 8) (n := 3) (by decide +kernel)) rfl ms_none (ms_at rfl rfl))
theorem ckJ11_checkIndex_4 : ckS (tBy cJ11_checkIndex) opsJ11_checkIndex 3 [(1, 0, 0), (1, 1, 0)] 4 [(0, 0), (1, 0), (2, 2)] [] = some (6, [(0, 0), (1, 0), (2, 2)], [0, 0]) := by decide +kernel
theorem hsJ11_checkIndex_4 (D : tD) (b0 : Nat) : tSx (eJ11_checkIndex D b0) 4 [(0, 0), (1, 0), (2, 2)] [] bJ11_checkIndex_4 := ckS_ok (E := eJ11_checkIndex D b0) (T := mi_lt (mx_go 16) mx_none) (okJ11_checkIndex D b0) ckJ11_checkIndex_4 (ms_icmp_lt 16 (tDe (c := cJ11_checkIndex) (pc := 6) (i := .if_icmp .lt 10) (n := 3) (by decide +kernel)) rfl (ms_at rfl rfl) ms_none)
theorem ckJ11_checkIndex_16 : ckS (tBy cJ11_checkIndex) opsJ11_checkIndex 3 [(1, 0, 0)] 16 [(0, 0), (1, 0), (2, 2)] [] = some (17, [(0, 0), (1, 0), (2, 2)], [0]) := by decide +kernel
theorem hsJ11_checkIndex_16 (D : tD) (b0 : Nat) : tSx (eJ11_checkIndex D b0) 16 [(0, 0), (1, 0), (2, 2)] [] bJ11_checkIndex_16 := ckS_ok (E := eJ11_checkIndex D b0) (T := mx_ret) (okJ11_checkIndex D b0) ckJ11_checkIndex_16 (ms_iret (tDe (c := cJ11_checkIndex) (pc := 17) (i := .ireturn) (n := 1) (by decide +kernel)) rfl)
theorem sJ11_checkIndex (D : tD) (b0 : Nat) : tMX D b0 yJ11_checkIndex (ws_ yJ11_checkIndex cJ11_checkIndex 3 (some (.int))) (some (.int)) [0, 0, 2] 0 0 fJ11_checkIndex :=
  tMX.lim fun n => tMX.of n (te := tTy tbJ11_checkIndex) (ini := false) pfJ11_checkIndex (fun h => by cases h) (Nat.le_of_ble_eq_true rfl) rfl rfl (tTb (E := eJ11_checkIndex D b0) rfl (List.forall_mem_cons.mpr ⟨hsJ11_checkIndex_0 D b0, (List.forall_mem_cons.mpr ⟨hsJ11_checkIndex_4 D b0, (List.forall_mem_cons.mpr ⟨hsJ11_checkIndex_16 D b0, (fun q hq => by cases hq)⟩)⟩)⟩))
def fgJ11_checkIndex : List Int → tH → Prop := fun as h => match as with
  | [a0, a1, a2] => i32 a0 ∧ (a0 < 0 → False) ∧ (¬ (a0 < 0) → i32 a1 ∧ (¬ (a0 < a1) → False))
  | _ => False
def fvJ11_checkIndex : List Int → tH → Int := fun as h => match as with
  | [a0, a1, a2] => (if a0 < 0 then 0 else (if a0 < a1 then a0 else 0))
  | _ => 0
def fhJ11_checkIndex : List Int → tH → tH := fun as h => h
theorem zJ11_checkIndex : tZ fJ11_checkIndex fgJ11_checkIndex fvJ11_checkIndex fhJ11_checkIndex := fun as h hg => match as, hg with
  | [a0, a1, a2], hg => by
    obtain ⟨v, h2, hF, rfl, rfl⟩ := wN.of (ks := [0, 0, 2]) (nL := 3) (Bk := bkJ11_checkIndex) (as := [a0, a1, a2]) (h := h) (Q := fun v h2 => v = fvJ11_checkIndex [a0, a1, a2] h ∧ h2 = fhJ11_checkIndex [a0, a1, a2] h) (wR.step (have Ec0 : fvJ11_checkIndex [a0, a1, a2] h = (if a0 < 0 then 0 else (if a0 < a1 then a0 else 0)) := rfl; (match hg with | ⟨g1, H5, H6⟩ => ⟨⟨g1, l32_0⟩, fun (c2 : a0 < 0) => have Ec2 := Ec0.trans (if_pos c2); (have H7 := (H5 c2); H7), fun (c2 : ¬ (a0 < 0)) => have Ec2 := Ec0.trans (if_neg c2); (match (H6 c2) with | ⟨g3, H8⟩ => (show wR bkJ11_checkIndex 4 [a0, a1, a2] [] h _ from wR.step ⟨⟨g1, g3⟩, fun (c4 : a0 < a1) => have Ec4 := Ec2.trans (if_pos c4); (show wR bkJ11_checkIndex 16 [a0, a1, a2] [] h _ from wR.step ⟨rfl, Ec4.symm, rfl⟩), fun (c4 : ¬ (a0 < a1)) => have Ec4 := Ec2.trans (if_neg c4); (have H9 := (H8 c4); H9)⟩))⟩)))
    exact hF
  | [], hg => hg.elim
  | [_], hg => hg.elim
  | [_, _], hg => hg.elim
  | _ :: _ :: _ :: _ :: _, hg => hg.elim
def yJ10_checkIndex : MethodName := ⟨RJ10, "checkIndex", "(II)I"⟩
abbrev cJ10_checkIndex : ByteArray := prog_74_method_17_code
noncomputable def bJ10_checkIndex_0 : tX := mx_load 0 (mx_load 1 (mx_push 0 (mx_callZ fJ11_checkIndex zJ11_checkIndex 3 (mx_ret))))
noncomputable def tbJ10_checkIndex : List tTe := [(0, ([(0, 0), (1, 0)], []), bJ10_checkIndex_0)]
noncomputable def bkJ10_checkIndex : Nat → tX := tBk tbJ10_checkIndex
noncomputable def fJ10_checkIndex : tFn := tFN [0, 0] 2 bkJ10_checkIndex
noncomputable def eJ10_checkIndex (D : tD) (b0 : Nat) : tM := (cJ10_checkIndex, 2, RJ10, tTy tbJ10_checkIndex, D, b0, 1, 46, some (.int), false, [])
noncomputable def opsJ10_checkIndex : List tOpE := [(.aconst_null, 1, [], [2], mx_push 0), (.invokestatic 105, 3, [2, 0, 0], [0], mx_callZ fJ11_checkIndex zJ11_checkIndex 3)]
theorem okJ10_checkIndex (D : tD) (b0 : Nat) : ∀ q ∈ opsJ10_checkIndex, OpOK (eJ10_checkIndex D b0) q := (List.forall_mem_cons.mpr ⟨opk_null, (List.forall_mem_cons.mpr ⟨(fun pc lt ts K hd hst hK => ms_callSZ (hz := zJ11_checkIndex) [0, 0, 2] ts (sJ11_checkIndex D b0) q1352 q1353 q226 q1354 hcJ11 pd__pIILjava_sutil_sfunction_sBiFunction_c_qI (Nat.le_of_ble_eq_true rfl) (Nat.le_trans (Nat.add_le_add_right (Nat.add_le_add_right hst _) _) (Nat.le_of_ble_eq_true rfl)) rfl rfl rfl rfl hd hK), (fun q hq => by cases hq)⟩)⟩)
theorem ckJ10_checkIndex_0 : ckS (tBy cJ10_checkIndex) opsJ10_checkIndex 2 [(1, 0, 0), (1, 1, 0), (0, 0, 0), (0, 1, 0)] 0 [(0, 0), (1, 0)] [] = some (6, [(0, 0), (1, 0)], [0]) := by decide +kernel
theorem hsJ10_checkIndex_0 (D : tD) (b0 : Nat) : tSx (eJ10_checkIndex D b0) 0 [(0, 0), (1, 0)] [] bJ10_checkIndex_0 := ckS_ok (E := eJ10_checkIndex D b0) (T := mx_ret) (okJ10_checkIndex D b0) ckJ10_checkIndex_0 (ms_iret (tDe (c := cJ10_checkIndex) (pc := 6) (i := .ireturn) (n := 1) (by decide +kernel)) rfl)
theorem sJ10_checkIndex (D : tD) (b0 : Nat) : tMX D b0 yJ10_checkIndex (ws_ yJ10_checkIndex cJ10_checkIndex 2 (some (.int))) (some (.int)) [0, 0] 1 46 fJ10_checkIndex :=
  tMX.lim fun n => tMX.of n (te := tTy tbJ10_checkIndex) (ini := false) pfJ10_checkIndex (fun h => by cases h) (Nat.le_of_ble_eq_true rfl) rfl rfl (tTb (E := eJ10_checkIndex D b0) rfl (List.forall_mem_cons.mpr ⟨hsJ10_checkIndex_0 D b0, (fun q hq => by cases hq)⟩))
def fgJ10_checkIndex : List Int → tH → Prop := fun as h => match as with
  | [a0, a1] => fgJ11_checkIndex [a0, a1, 0] h
  | _ => False
def fvJ10_checkIndex : List Int → tH → Int := fun as h => match as with
  | [a0, a1] => (fvJ11_checkIndex [a0, a1, 0] h)
  | _ => 0
def fhJ10_checkIndex : List Int → tH → tH := fun as h => h
theorem zJ10_checkIndex : tZ fJ10_checkIndex fgJ10_checkIndex fvJ10_checkIndex fhJ10_checkIndex := fun as h hg => match as, hg with
  | [a0, a1], hg => by
    obtain ⟨v, h2, hF, rfl, rfl⟩ := wN.of (ks := [0, 0]) (nL := 2) (Bk := bkJ10_checkIndex) (as := [a0, a1]) (h := h) (Q := fun v h2 => v = fvJ10_checkIndex [a0, a1] h ∧ h2 = fhJ10_checkIndex [a0, a1] h) (wR.step (have Ec0 : fvJ10_checkIndex [a0, a1] h = (fvJ11_checkIndex [a0, a1, 0] h) := rfl; (have g1 := hg; ⟨g1, ⟨rfl, Ec0.symm, rfl⟩⟩)))
    exact hF
  | [], hg => hg.elim
  | [_], hg => hg.elim
  | _ :: _ :: _ :: _, hg => hg.elim
def yJ12_init : MethodName := ⟨RJ12, "<init>", "()V"⟩
abbrev cJ12_init : ByteArray := prog_57_method_1_code
noncomputable def bJ12_init_rJ13_0 : tX := mx_load 0 (mx_obj (mx_go 4))
noncomputable def bJ12_init_rJ13_4 : tX := mx_retv
noncomputable def tbJ12_init_rJ13 : List tTe := [(0, ([(0, 2)], []), bJ12_init_rJ13_0), (4, ([(0, 2)], []), bJ12_init_rJ13_4)]
noncomputable def bkJ12_init_rJ13 : Nat → tX := tBk tbJ12_init_rJ13
noncomputable def fJ12_init_rJ13 : tFn := tFN [2] 1 bkJ12_init_rJ13
noncomputable def eJ12_init_rJ13 (D : tD) (b0 : Nat) : tM := (cJ12_init, 1, RJ12, tTy tbJ12_init_rJ13, D, b0, 1, 44, none, true, [])
noncomputable def opsJ12_init_rJ13 : List tOpE := [(.invokespecial 1, 3, [2], [], mx_obj)]
theorem okJ12_init_rJ13 (D : tD) (b0 : Nat) : ∀ q ∈ opsJ12_init_rJ13, OpOK (eJ12_init_rJ13 D b0) q := (List.forall_mem_cons.mpr ⟨(fun pc lt ts K hd hst hK => ms_obj q3381 q248 q249 (Nat.le_of_ble_eq_true rfl) (Nat.le_trans (Nat.add_le_add_right hst _) (Nat.le_of_ble_eq_true rfl)) hd hK), (fun q hq => by cases hq)⟩)
theorem ckJ12_init_rJ13_0 : ckS (tBy cJ12_init) opsJ12_init_rJ13 1 [(1, 0, 2), (0, 0, 0)] 0 [(0, 2)] [] = some (4, [(0, 2)], []) := by decide +kernel
theorem hsJ12_init_rJ13_0 (D : tD) (b0 : Nat) : tSx (eJ12_init_rJ13 D b0) 0 [(0, 2)] [] bJ12_init_rJ13_0 := ckS_ok (E := eJ12_init_rJ13 D b0) (T := mx_go 4) (okJ12_init_rJ13 D b0) ckJ12_init_rJ13_0 (ms_at rfl rfl)
theorem hsJ12_init_rJ13_4 (D : tD) (b0 : Nat) : tSx (eJ12_init_rJ13 D b0) 4 [(0, 2)] [] bJ12_init_rJ13_4 := (ms_vret (tDe (c := cJ12_init) (pc := 4) (i := .return_) (n := 1) (by decide +kernel)) rfl)
theorem sJ12_init_rJ13 (D : tD) (b0 : Nat) : tMX D b0 yJ12_init (ws_ yJ12_init cJ12_init 1 (none)) (none) [2] 1 44 fJ12_init_rJ13 :=
  tMX.lim fun n => tMX.of n (te := tTy tbJ12_init_rJ13) (ini := true) pfJ12_init (fun h => by rfl) (Nat.le_of_ble_eq_true rfl) rfl rfl (tTb (E := eJ12_init_rJ13 D b0) rfl (List.forall_mem_cons.mpr ⟨hsJ12_init_rJ13_0 D b0, (List.forall_mem_cons.mpr ⟨hsJ12_init_rJ13_4 D b0, (fun q hq => by cases hq)⟩)⟩))
def fgJ12_init_rJ13 : List Int → tH → Prop := fun as h => match as with
  | [a0] => h.2.2.1 a0 < 1000
  | _ => False
def fvJ12_init_rJ13 : List Int → tH → Int := fun as h => match as with
  | [a0] => 0
  | _ => 0
def fhJ12_init_rJ13 : List Int → tH → tH := fun as h => h
theorem zJ12_init_rJ13 : tZ fJ12_init_rJ13 fgJ12_init_rJ13 fvJ12_init_rJ13 fhJ12_init_rJ13 := fun as h hg => match as, hg with
  | [a0], hg => by
    obtain ⟨v, h2, hF, rfl, rfl⟩ := wN.of (ks := [2]) (nL := 1) (Bk := bkJ12_init_rJ13) (as := [a0]) (h := h) (Q := fun v h2 => v = fvJ12_init_rJ13 [a0] h ∧ h2 = fhJ12_init_rJ13 [a0] h) (wR.step (have Ec0 : fvJ12_init_rJ13 [a0] h = 0 := rfl; (have g1 := hg; ⟨g1, (show wR bkJ12_init_rJ13 4 [a0] [] h _ from wR.step ⟨rfl, Ec0.symm, rfl⟩)⟩)))
    exact hF
  | [], hg => hg.elim
  | _ :: _ :: _, hg => hg.elim
def yJ13_init : MethodName := ⟨RJ13, "<init>", "(I)V"⟩
abbrev cJ13_init : ByteArray := prog_53_method_23_code
noncomputable def bJ13_init_0 : tX := mx_load 0 (mv_callZv 47 fJ12_init_rJ13 zJ12_init_rJ13 1 (mx_go 4))
noncomputable def bJ13_init_4 : tX := mx_load 0 (mx_load 1 (mx_putf 47 0 (fun _ => rfl) (mx_retv)))
noncomputable def tbJ13_init : List tTe := [(0, ([(0, 2), (1, 0)], []), bJ13_init_0), (4, ([(0, 2), (1, 0)], []), bJ13_init_4)]
noncomputable def bkJ13_init : Nat → tX := tBk tbJ13_init
noncomputable def fJ13_init : tFn := tFN [2, 0] 2 bkJ13_init
noncomputable def eJ13_init (D : tD) (b0 : Nat) : tM := (cJ13_init, 2, RJ13, tTy tbJ13_init, D, b0, 2, 88, none, true, [])
noncomputable def opsJ13_init : List tOpE := [(.invokespecial 202, 3, [2], [], mv_callZv 47 fJ12_init_rJ13 zJ12_init_rJ13 1), (.putfield 205, 3, [0, 2], [], mx_putf 47 0 (fun _ => rfl))]
theorem okJ13_init (D : tD) (b0 : Nat) : ∀ q ∈ opsJ13_init, OpOK (eJ13_init D b0) q := (List.forall_mem_cons.mpr ⟨(fun pc lt ts K hd hst hK => ms_callIZv (hz := zJ12_init_rJ13) 47 [] ts (sJ12_init_rJ13 D b0) (Nat.le_of_ble_eq_true rfl) rfl rfl q3378 q3379 q230 q3380 hcJ12 pd__p_qV (Nat.le_of_ble_eq_true rfl) (Nat.le_trans (Nat.add_le_add_right (Nat.add_le_add_right hst _) _) (Nat.le_of_ble_eq_true rfl)) rfl rfl rfl hd hK), (List.forall_mem_cons.mpr ⟨opk_putf 47 0 0 rfl (Nat.le_of_ble_eq_true rfl) (Nat.le_of_ble_eq_true rfl) q3382 (Or.inl rfl) (Or.inr ⟨rfl, rfl, rfl⟩) rfl, (fun q hq => by cases hq)⟩)⟩)
theorem ckJ13_init_0 : ckS (tBy cJ13_init) opsJ13_init 2 [(1, 0, 2), (0, 0, 0)] 0 [(0, 2), (1, 0)] [] = some (4, [(0, 2), (1, 0)], []) := by decide +kernel
theorem hsJ13_init_0 (D : tD) (b0 : Nat) : tSx (eJ13_init D b0) 0 [(0, 2), (1, 0)] [] bJ13_init_0 := ckS_ok (E := eJ13_init D b0) (T := mx_go 4) (okJ13_init D b0) ckJ13_init_0 (ms_at rfl rfl)
theorem ckJ13_init_4 : ckS (tBy cJ13_init) opsJ13_init 2 [(1, 0, 2), (1, 1, 0), (0, 1, 0)] 4 [(0, 2), (1, 0)] [] = some (9, [(0, 2), (1, 0)], []) := by decide +kernel
theorem hsJ13_init_4 (D : tD) (b0 : Nat) : tSx (eJ13_init D b0) 4 [(0, 2), (1, 0)] [] bJ13_init_4 := ckS_ok (E := eJ13_init D b0) (T := mx_retv) (okJ13_init D b0) ckJ13_init_4 (ms_vret (tDe (c := cJ13_init) (pc := 9) (i := .return_) (n := 1) (by decide +kernel)) rfl)
theorem sJ13_init (D : tD) (b0 : Nat) : tMX D b0 yJ13_init (ws_ yJ13_init cJ13_init 2 (none)) (none) [2, 0] 2 88 fJ13_init :=
  tMX.lim fun n => tMX.of n (te := tTy tbJ13_init) (ini := true) pfJ13_init (fun h => by rfl) (Nat.le_of_ble_eq_true rfl) rfl rfl (tTb (E := eJ13_init D b0) rfl (List.forall_mem_cons.mpr ⟨hsJ13_init_0 D b0, (List.forall_mem_cons.mpr ⟨hsJ13_init_4 D b0, (fun q hq => by cases hq)⟩)⟩))
def fgJ13_init : List Int → tH → Prop := fun as h => match as with
  | [a0, a1] => h.2.2.1 a0 = 47 ∧ fgJ12_init_rJ13 [a0] h
  | _ => False
def fvJ13_init : List Int → tH → Int := fun as h => match as with
  | [a0, a1] => 0
  | _ => 0
def fhJ13_init : List Int → tH → tH := fun as h => match as with
  | [a0, a1] => (tPut h a0 0 a1)
  | _ => h
theorem zJ13_init : tZ fJ13_init fgJ13_init fvJ13_init fhJ13_init := fun as h hg => match as, hg with
  | [a0, a1], hg => by
    obtain ⟨v, h2, hF, rfl, rfl⟩ := wN.of (ks := [2, 0]) (nL := 2) (Bk := bkJ13_init) (as := [a0, a1]) (h := h) (Q := fun v h2 => v = fvJ13_init [a0, a1] h ∧ h2 = fhJ13_init [a0, a1] h) (wR.step (have Ec0 : fvJ13_init [a0, a1] h = 0 := rfl; (match hg with | ⟨g1, g2⟩ => ⟨g1, g2, (show wR bkJ13_init 4 [a0, a1] [] h _ from wR.step ⟨g1, ⟨rfl, Ec0.symm, rfl⟩⟩)⟩)))
    exact hF
  | [], hg => hg.elim
  | [_], hg => hg.elim
  | _ :: _ :: _ :: _, hg => hg.elim
def yJ13_valueOf : MethodName := ⟨RJ13, "valueOf", "(I)Ljava/lang/Integer;"⟩
abbrev cJ13_valueOf : ByteArray := prog_53_method_22_code
noncomputable def bJ13_valueOf_0 : tX := mx_load 0 (mx_push (-128) (mi_lt (mx_go 23) (mx_go 6)))
noncomputable def bJ13_valueOf_6 : tX := mx_load 0 (mx_push 127 (mi_gt (mx_go 23) (mx_go 13)))
noncomputable def bJ13_valueOf_13 : tX := mx_gets 1 (mx_load 0 (mx_push 128 (mx_bin f_add (mx_cache (mx_ret)))))
noncomputable def bJ13_valueOf_23 : tX := mx_new 47 ((1 : Nat) : Int) (mx_dup (mx_load 0 (mv_callZv 47 fJ13_init zJ13_init 2 (mx_ret))))
noncomputable def tbJ13_valueOf : List tTe := [(0, ([(0, 0)], []), bJ13_valueOf_0), (6, ([(0, 0)], []), bJ13_valueOf_6), (13, ([(0, 0)], []), bJ13_valueOf_13), (23, ([(0, 0)], []), bJ13_valueOf_23)]
noncomputable def bkJ13_valueOf : Nat → tX := tBk tbJ13_valueOf
noncomputable def fJ13_valueOf : tFn := tFN [0] 1 bkJ13_valueOf
noncomputable def eJ13_valueOf (D : tD) (b0 : Nat) : tM := (cJ13_valueOf, 1, RJ13, tTy tbJ13_valueOf, D, b0, 3, 133, some (.object "java/lang/Integer"), false, [])
noncomputable def opsJ13_valueOf : List tOpE := [(.bipush (-128), 2, [], [0], mx_push (-128)), (.getstatic 191, 3, [], [0], mx_push 127), (.getstatic 195, 3, [], [2], mx_gets 1), (.sipush 128, 3, [], [0], mx_push 128), (.iadd, 1, [0, 0], [0], mx_bin f_add), (.aaload, 1, [0, 2], [2], mx_cache), (.new 1, 3, [], [2], mx_new 47 ((1 : Nat) : Int)), (.dup, 1, [2], [2, 2], mx_dup), (.invokespecial 199, 3, [0, 2], [], mv_callZv 47 fJ13_init zJ13_init 2)]
theorem okJ13_valueOf (D : tD) (b0 : Nat) : ∀ q ∈ opsJ13_valueOf, OpOK (eJ13_valueOf D b0) q := (List.forall_mem_cons.mpr ⟨opk_bipush bp_m128, (List.forall_mem_cons.mpr ⟨(fun pc lt ts K hd hst hK => ms_getsH q3369 (Or.inl rfl) hd hK), (List.forall_mem_cons.mpr ⟨(fun pc lt ts K hd hst hK => ms_gets 1 (List.Mem.tail _ (List.Mem.head _)) q3371 (Or.inl rfl) hd hK), (List.forall_mem_cons.mpr ⟨opk_sipush sp_128, (List.forall_mem_cons.mpr ⟨opk_iadd, (List.forall_mem_cons.mpr ⟨(fun pc lt ts K hd hst hK => ms_cache hd hK), (List.forall_mem_cons.mpr ⟨(fun pc lt ts K hd hst hK => ms_new 47 hd rfl (Nat.le_of_ble_eq_true rfl) q3373 q3374 q231 rfl hK), (List.forall_mem_cons.mpr ⟨opk_dup2_, (List.forall_mem_cons.mpr ⟨(fun pc lt ts K hd hst hK => ms_callIZv (hz := zJ13_init) 47 [0] ts (sJ13_init D b0) (Nat.le_of_ble_eq_true rfl) rfl rfl q3375 q3376 q231 q3377 hcJ13 pd__pI_qV (Nat.le_of_ble_eq_true rfl) (Nat.le_trans (Nat.add_le_add_right (Nat.add_le_add_right hst _) _) (Nat.le_of_ble_eq_true rfl)) rfl rfl rfl hd hK), (fun q hq => by cases hq)⟩)⟩)⟩)⟩)⟩)⟩)⟩)⟩)⟩)
theorem ckJ13_valueOf_0 : ckS (tBy cJ13_valueOf) opsJ13_valueOf 1 [(1, 0, 0), (0, 0, 0)] 0 [(0, 0)] [] = some (3, [(0, 0)], [0, 0]) := by decide +kernel
theorem hsJ13_valueOf_0 (D : tD) (b0 : Nat) : tSx (eJ13_valueOf D b0) 0 [(0, 0)] [] bJ13_valueOf_0 := ckS_ok (E := eJ13_valueOf D b0) (T := mi_lt (mx_go 23) (mx_go 6)) (okJ13_valueOf D b0) ckJ13_valueOf_0 (ms_icmp_lt 23 (tDe (c := cJ13_valueOf) (pc := 3) (i := .if_icmp .lt 20) (n := 3) (by decide +kernel)) rfl (ms_at rfl rfl) (ms_at rfl rfl))
theorem ckJ13_valueOf_6 : ckS (tBy cJ13_valueOf) opsJ13_valueOf 1 [(1, 0, 0), (0, 1, 0)] 6 [(0, 0)] [] = some (10, [(0, 0)], [0, 0]) := by decide +kernel
theorem hsJ13_valueOf_6 (D : tD) (b0 : Nat) : tSx (eJ13_valueOf D b0) 6 [(0, 0)] [] bJ13_valueOf_6 := ckS_ok (E := eJ13_valueOf D b0) (T := mi_gt (mx_go 23) (mx_go 13)) (okJ13_valueOf D b0) ckJ13_valueOf_6 (ms_icmp_gt 23 (tDe (c := cJ13_valueOf) (pc := 10) (i := .if_icmp .gt 13) (n := 3) (by decide +kernel)) rfl (ms_at rfl rfl) (ms_at rfl rfl))
theorem ckJ13_valueOf_13 : ckS (tBy cJ13_valueOf) opsJ13_valueOf 1 [(0, 2, 0), (1, 0, 0), (0, 3, 0), (0, 4, 0), (0, 5, 0)] 13 [(0, 0)] [] = some (22, [(0, 0)], [2]) := by decide +kernel
theorem hsJ13_valueOf_13 (D : tD) (b0 : Nat) : tSx (eJ13_valueOf D b0) 13 [(0, 0)] [] bJ13_valueOf_13 := ckS_ok (E := eJ13_valueOf D b0) (T := mx_ret) (okJ13_valueOf D b0) ckJ13_valueOf_13 (ms_aret _ (tDe (c := cJ13_valueOf) (pc := 22) (i := .areturn) (n := 1) (by decide +kernel)) rfl (Or.inl ⟨_, rfl⟩))
theorem ckJ13_valueOf_23 : ckS (tBy cJ13_valueOf) opsJ13_valueOf 1 [(0, 6, 0), (0, 7, 0), (1, 0, 0), (0, 8, 0)] 23 [(0, 0)] [] = some (31, [(0, 0)], [2]) := by decide +kernel
theorem hsJ13_valueOf_23 (D : tD) (b0 : Nat) : tSx (eJ13_valueOf D b0) 23 [(0, 0)] [] bJ13_valueOf_23 := ckS_ok (E := eJ13_valueOf D b0) (T := mx_ret) (okJ13_valueOf D b0) ckJ13_valueOf_23 (ms_aret _ (tDe (c := cJ13_valueOf) (pc := 31) (i := .areturn) (n := 1) (by decide +kernel)) rfl (Or.inl ⟨_, rfl⟩))
theorem sJ13_valueOf (D : tD) (b0 : Nat) : tMX D b0 yJ13_valueOf (ws_ yJ13_valueOf cJ13_valueOf 1 (some (.object "java/lang/Integer"))) (some (.object "java/lang/Integer")) [0] 3 133 fJ13_valueOf :=
  tMX.lim fun n => tMX.of n (te := tTy tbJ13_valueOf) (ini := false) pfJ13_valueOf (fun h => by cases h) (Nat.le_of_ble_eq_true rfl) rfl rfl (tTb (E := eJ13_valueOf D b0) rfl (List.forall_mem_cons.mpr ⟨hsJ13_valueOf_0 D b0, (List.forall_mem_cons.mpr ⟨hsJ13_valueOf_6 D b0, (List.forall_mem_cons.mpr ⟨hsJ13_valueOf_13 D b0, (List.forall_mem_cons.mpr ⟨hsJ13_valueOf_23 D b0, (fun q hq => by cases hq)⟩)⟩)⟩)⟩))
def fgJ13_valueOf : List Int → tH → Prop := fun as h => match as with
  | [a0] => i32 a0 ∧ (a0 < (-128) → (tNew h 47 0 1).2.2.1 h.2.2.2.1 = 47 ∧ fgJ13_init [h.2.2.2.1, a0] (tNew h 47 0 1)) ∧ (¬ (a0 < (-128)) → (127 < a0 → (tNew h 47 0 1).2.2.1 h.2.2.2.1 = 47 ∧ fgJ13_init [h.2.2.2.1, a0] (tNew h 47 0 1)) ∧ (¬ (127 < a0) → 0 ≤ (a0 + 128) ∧ (a0 + 128) < 256))
  | _ => False
def fvJ13_valueOf : List Int → tH → Int := fun as h => match as with
  | [a0] => (if a0 < (-128) then h.2.2.2.1 else (if 127 < a0 then h.2.2.2.1 else (h.1.1 0 (100 + (a0 + 128)))))
  | _ => 0
def fhJ13_valueOf : List Int → tH → tH := fun as h => match as with
  | [a0] => (if a0 < (-128) then (fhJ13_init [h.2.2.2.1, a0] (tNew h 47 0 1)) else (if 127 < a0 then (fhJ13_init [h.2.2.2.1, a0] (tNew h 47 0 1)) else h))
  | _ => h
theorem zJ13_valueOf : tZ fJ13_valueOf fgJ13_valueOf fvJ13_valueOf fhJ13_valueOf := fun as h hg => match as, hg with
  | [a0], hg => by
    obtain ⟨v, h2, hF, rfl, rfl⟩ := wN.of (ks := [0]) (nL := 1) (Bk := bkJ13_valueOf) (as := [a0]) (h := h) (Q := fun v h2 => v = fvJ13_valueOf [a0] h ∧ h2 = fhJ13_valueOf [a0] h) (wR.step (have Ec0 : fvJ13_valueOf [a0] h = (if a0 < (-128) then h.2.2.2.1 else (if 127 < a0 then h.2.2.2.1 else (h.1.1 0 (100 + (a0 + 128))))) := rfl; have Fc0 : fhJ13_valueOf [a0] h = (if a0 < (-128) then (fhJ13_init [h.2.2.2.1, a0] (tNew h 47 0 1)) else (if 127 < a0 then (fhJ13_init [h.2.2.2.1, a0] (tNew h 47 0 1)) else h)) := rfl; (match hg with | ⟨g1, H10, H11⟩ => ⟨⟨g1, l32_m128⟩, fun (c2 : a0 < (-128)) => have Ec2 := Ec0.trans (if_pos c2); have Fc2 := Fc0.trans (if_pos c2); (match (H10 c2) with | ⟨g3, g4⟩ => (show wR bkJ13_valueOf 23 [a0] [] h _ from wR.step ⟨g3, g4, ⟨rfl, Ec2.symm, Fc2.symm⟩⟩)), fun (c2 : ¬ (a0 < (-128))) => have Ec2 := Ec0.trans (if_neg c2); have Fc2 := Fc0.trans (if_neg c2); (match (H11 c2) with | ⟨H12, H13⟩ => (show wR bkJ13_valueOf 6 [a0] [] h _ from wR.step ⟨⟨g1, l32_127⟩, fun (c5 : 127 < a0) => have Ec5 := Ec2.trans (if_pos c5); have Fc5 := Fc2.trans (if_pos c5); (match (H12 c5) with | ⟨g6, g7⟩ => (show wR bkJ13_valueOf 23 [a0] [] h _ from wR.step ⟨g6, g7, ⟨rfl, Ec5.symm, Fc5.symm⟩⟩)), fun (c5 : ¬ (127 < a0)) => have Ec5 := Ec2.trans (if_neg c5); have Fc5 := Fc2.trans (if_neg c5); (match (H13 c5) with | ⟨g8, g9⟩ => (show wR bkJ13_valueOf 13 [a0] [] h _ from wR.step ⟨⟨rfl, g8, g9⟩, ⟨rfl, Ec5.symm, Fc5.symm⟩⟩))⟩))⟩)))
    exact hF
  | [], hg => hg.elim
  | _ :: _ :: _, hg => hg.elim
def yJ13_intValue : MethodName := ⟨RJ13, "intValue", "()I"⟩
abbrev cJ13_intValue : ByteArray := prog_53_method_27_code
noncomputable def bJ13_intValue_0 : tX := mx_load 0 (mx_getf2 47 2047 0 (mx_ret))
noncomputable def tbJ13_intValue : List tTe := [(0, ([(0, 2)], []), bJ13_intValue_0)]
noncomputable def bkJ13_intValue : Nat → tX := tBk tbJ13_intValue
noncomputable def fJ13_intValue : tFn := tFN [2] 1 bkJ13_intValue
noncomputable def eJ13_intValue (D : tD) (b0 : Nat) : tM := (cJ13_intValue, 1, RJ13, tTy tbJ13_intValue, D, b0, 0, 0, some (.int), false, [])
noncomputable def opsJ13_intValue : List tOpE := [(.getfield 205, 3, [2], [0], mx_getf2 47 2047 0)]
theorem okJ13_intValue (D : tD) (b0 : Nat) : ∀ q ∈ opsJ13_intValue, OpOK (eJ13_intValue D b0) q := (List.forall_mem_cons.mpr ⟨(fun pc lt ts K hd hst hK => ms_getf2 47 2047 0 0 hd rfl rfl (Nat.le_of_ble_eq_true rfl) (Nat.le_of_ble_eq_true rfl) (Nat.le_of_ble_eq_true rfl) (Nat.le_of_ble_eq_true rfl) q3382 q3382 (Or.inl rfl) (Or.inl rfl) rfl rfl hK), (fun q hq => by cases hq)⟩)
theorem ckJ13_intValue_0 : ckS (tBy cJ13_intValue) opsJ13_intValue 1 [(1, 0, 2), (0, 0, 0)] 0 [(0, 2)] [] = some (4, [(0, 2)], [0]) := by decide +kernel
theorem hsJ13_intValue_0 (D : tD) (b0 : Nat) : tSx (eJ13_intValue D b0) 0 [(0, 2)] [] bJ13_intValue_0 := ckS_ok (E := eJ13_intValue D b0) (T := mx_ret) (okJ13_intValue D b0) ckJ13_intValue_0 (ms_iret (tDe (c := cJ13_intValue) (pc := 4) (i := .ireturn) (n := 1) (by decide +kernel)) rfl)
theorem sJ13_intValue (D : tD) (b0 : Nat) : tMX D b0 yJ13_intValue (ws_ yJ13_intValue cJ13_intValue 1 (some (.int))) (some (.int)) [2] 0 0 fJ13_intValue :=
  tMX.lim fun n => tMX.of n (te := tTy tbJ13_intValue) (ini := false) pfJ13_intValue (fun h => by cases h) (Nat.le_of_ble_eq_true rfl) rfl rfl (tTb (E := eJ13_intValue D b0) rfl (List.forall_mem_cons.mpr ⟨hsJ13_intValue_0 D b0, (fun q hq => by cases hq)⟩))
def fgJ13_intValue : List Int → tH → Prop := fun as h => match as with
  | [a0] => (h.2.2.1 a0 = 47 ∨ h.2.2.1 a0 = 2047)
  | _ => False
def fvJ13_intValue : List Int → tH → Int := fun as h => match as with
  | [a0] => (h.1.1 a0 0)
  | _ => 0
def fhJ13_intValue : List Int → tH → tH := fun as h => h
theorem zJ13_intValue : tZ fJ13_intValue fgJ13_intValue fvJ13_intValue fhJ13_intValue := fun as h hg => match as, hg with
  | [a0], hg => by
    obtain ⟨v, h2, hF, rfl, rfl⟩ := wN.of (ks := [2]) (nL := 1) (Bk := bkJ13_intValue) (as := [a0]) (h := h) (Q := fun v h2 => v = fvJ13_intValue [a0] h ∧ h2 = fhJ13_intValue [a0] h) (wR.step (have Ec0 : fvJ13_intValue [a0] h = (h.1.1 a0 0) := rfl; (have g1 := hg; ⟨g1, ⟨rfl, Ec0.symm, rfl⟩⟩)))
    exact hF
  | [], hg => hg.elim
  | _ :: _ :: _, hg => hg.elim
def yJ14_init : MethodName := ⟨RJ14, "<init>", "(I)V"⟩
abbrev cJ14_init : ByteArray := prog_46_method_2_code
noncomputable def bJ14_init_rJ15_0 : tX := mx_load 0 (mx_obj (mx_go 4))
noncomputable def bJ14_init_rJ15_4 : tX := mx_push 1 (mx_push 0 (mi_eq mx_none (mx_go 10)))
noncomputable def bJ14_init_rJ15_10 : tX := mx_load 0 (mx_load 1 (mx_newa 3 (mx_putf 45 0 (fun _ => rfl) (mx_load 0 (mx_push 0 (mx_putfB 45 1 (fun v h => decide_eq_true h) (mx_go 38)))))))
noncomputable def bJ14_init_rJ15_38 : tX := mx_retv
noncomputable def tbJ14_init_rJ15 : List tTe := [(0, ([(0, 2), (1, 0)], []), bJ14_init_rJ15_0), (4, ([(0, 2), (1, 0)], []), bJ14_init_rJ15_4), (10, ([(0, 2), (1, 0)], []), bJ14_init_rJ15_10), (38, ([(0, 2), (1, 0)], []), bJ14_init_rJ15_38)]
noncomputable def bkJ14_init_rJ15 : Nat → tX := tBk tbJ14_init_rJ15
noncomputable def fJ14_init_rJ15 : tFn := tFN [2, 0] 2 bkJ14_init_rJ15
noncomputable def eJ14_init_rJ15 (D : tD) (b0 : Nat) : tM := (cJ14_init, 2, RJ14, tTy tbJ14_init_rJ15, D, b0, 1, 44, none, true, [])
noncomputable def opsJ14_init_rJ15 : List tOpE := [(.invokespecial 3, 3, [2], [], mx_obj), (.getstatic 18, 3, [], [0], mx_push 1), (.newarray .byte, 2, [0], [2], mx_newa 3), (.putfield 15, 3, [2, 2], [], mx_putf 45 0 (fun _ => rfl)), (.iconst 0, 1, [], [0], mx_push 0), (.putfield 22, 3, [0, 2], [], mx_putfB 45 1 (fun v h => decide_eq_true h))]
theorem okJ14_init_rJ15 (D : tD) (b0 : Nat) : ∀ q ∈ opsJ14_init_rJ15, OpOK (eJ14_init_rJ15 D b0) q := (List.forall_mem_cons.mpr ⟨(fun pc lt ts K hd hst hK => ms_obj q2265 q248 q249 (Nat.le_of_ble_eq_true rfl) (Nat.le_trans (Nat.add_le_add_right hst _) (Nat.le_of_ble_eq_true rfl)) hd hK), (List.forall_mem_cons.mpr ⟨(fun pc lt ts K hd hst hK => ms_getsC q2266 (Or.inl rfl) hd hK), (List.forall_mem_cons.mpr ⟨(fun pc lt ts K hd hst hK => ms_newa (at_ := .byte) 3 (Nat.le_of_ble_eq_true rfl) rfl rfl (Nat.le_of_ble_eq_true rfl) (fun C h => by cases h) q317 hd hK), (List.forall_mem_cons.mpr ⟨opk_putf 45 0 2 rfl (Nat.le_of_ble_eq_true rfl) (Nat.le_of_ble_eq_true rfl) q2275 (Or.inl rfl) (Or.inl rfl) rfl, (List.forall_mem_cons.mpr ⟨opk_iconst 0, (List.forall_mem_cons.mpr ⟨(fun pc lt ts K hd hst hK => ms_putfB (hok := fun v h => decide_eq_true h) 45 1 0 hd rfl (Nat.le_of_ble_eq_true rfl) (Nat.le_of_ble_eq_true rfl) q2276 (Or.inl rfl) (Or.inl rfl) rfl hK), (fun q hq => by cases hq)⟩)⟩)⟩)⟩)⟩)⟩)
theorem ckJ14_init_rJ15_0 : ckS (tBy cJ14_init) opsJ14_init_rJ15 2 [(1, 0, 2), (0, 0, 0)] 0 [(0, 2), (1, 0)] [] = some (4, [(0, 2), (1, 0)], []) := by decide +kernel
theorem hsJ14_init_rJ15_0 (D : tD) (b0 : Nat) : tSx (eJ14_init_rJ15 D b0) 0 [(0, 2), (1, 0)] [] bJ14_init_rJ15_0 := ckS_ok (E := eJ14_init_rJ15 D b0) (T := mx_go 4) (okJ14_init_rJ15 D b0) ckJ14_init_rJ15_0 (ms_at rfl rfl)
theorem ckJ14_init_rJ15_4 : ckS (tBy cJ14_init) opsJ14_init_rJ15 2 [(0, 1, 0)] 4 [(0, 2), (1, 0)] [] = some (7, [(0, 2), (1, 0)], [0]) := by decide +kernel
theorem hsJ14_init_rJ15_4 (D : tD) (b0 : Nat) : tSx (eJ14_init_rJ15 D b0) 4 [(0, 2), (1, 0)] [] bJ14_init_rJ15_4 := ckS_ok (E := eJ14_init_rJ15 D b0) (T := mx_push 0 (mi_eq mx_none (mx_go 10))) (okJ14_init_rJ15 D b0) ckJ14_init_rJ15_4 (ms_if_eq 25 (tDe (c := cJ14_init) (pc := 7) (i := .ifCond .eq 18) (n := 3) (by decide +kernel)) rfl ms_none (ms_at rfl rfl))
theorem ckJ14_init_rJ15_10 : ckS (tBy cJ14_init) opsJ14_init_rJ15 2 [(1, 0, 2), (1, 1, 0), (0, 2, 0), (0, 3, 0), (1, 0, 2), (0, 4, 0), (0, 5, 0)] 10 [(0, 2), (1, 0)] [] = some (22, [(0, 2), (1, 0)], []) := by decide +kernel
theorem hsJ14_init_rJ15_10 (D : tD) (b0 : Nat) : tSx (eJ14_init_rJ15 D b0) 10 [(0, 2), (1, 0)] [] bJ14_init_rJ15_10 := ckS_ok (E := eJ14_init_rJ15 D b0) (T := mx_go 38) (okJ14_init_rJ15 D b0) ckJ14_init_rJ15_10 (ms_goto 38 (tDe (c := cJ14_init) (pc := 22) (i := .goto 16) (n := 3) (by decide +kernel)) rfl (ms_at rfl rfl))
theorem hsJ14_init_rJ15_38 (D : tD) (b0 : Nat) : tSx (eJ14_init_rJ15 D b0) 38 [(0, 2), (1, 0)] [] bJ14_init_rJ15_38 := (ms_vret (tDe (c := cJ14_init) (pc := 38) (i := .return_) (n := 1) (by decide +kernel)) rfl)
theorem sJ14_init_rJ15 (D : tD) (b0 : Nat) : tMX D b0 yJ14_init (ws_ yJ14_init cJ14_init 2 (none)) (none) [2, 0] 1 44 fJ14_init_rJ15 :=
  tMX.lim fun n => tMX.of n (te := tTy tbJ14_init_rJ15) (ini := true) pfJ14_init (fun h => by rfl) (Nat.le_of_ble_eq_true rfl) rfl rfl (tTb (E := eJ14_init_rJ15 D b0) rfl (List.forall_mem_cons.mpr ⟨hsJ14_init_rJ15_0 D b0, (List.forall_mem_cons.mpr ⟨hsJ14_init_rJ15_4 D b0, (List.forall_mem_cons.mpr ⟨hsJ14_init_rJ15_10 D b0, (List.forall_mem_cons.mpr ⟨hsJ14_init_rJ15_38 D b0, (fun q hq => by cases hq)⟩)⟩)⟩)⟩))
def fgJ14_init_rJ15 : List Int → tH → Prop := fun as h => match as with
  | [a0, a1] => h.2.2.1 a0 < 1000 ∧ 0 ≤ a1 ∧ a1 ≤ 67108864 ∧ (tNew h 1003 a1 a1).2.2.1 a0 = 45
  | _ => False
def fvJ14_init_rJ15 : List Int → tH → Int := fun as h => match as with
  | [a0, a1] => 0
  | _ => 0
def fhJ14_init_rJ15 : List Int → tH → tH := fun as h => match as with
  | [a0, a1] => (tPut (tPut (tNew h 1003 a1 a1) a0 0 h.2.2.2.1) a0 1 0)
  | _ => h
theorem zJ14_init_rJ15 : tZ fJ14_init_rJ15 fgJ14_init_rJ15 fvJ14_init_rJ15 fhJ14_init_rJ15 := fun as h hg => match as, hg with
  | [a0, a1], hg => by
    obtain ⟨v, h2, hF, rfl, rfl⟩ := wN.of (ks := [2, 0]) (nL := 2) (Bk := bkJ14_init_rJ15) (as := [a0, a1]) (h := h) (Q := fun v h2 => v = fvJ14_init_rJ15 [a0, a1] h ∧ h2 = fhJ14_init_rJ15 [a0, a1] h) (wR.step (have Ec0 : fvJ14_init_rJ15 [a0, a1] h = 0 := rfl; (match hg with | ⟨g1, H6⟩ => ⟨g1, (show wR bkJ14_init_rJ15 4 [a0, a1] [] h _ from wR.step ⟨⟨l32_1, l32_0⟩, fun (z : 1 = 0) => absurd z (by decide), fun _ => (match H6 with | ⟨g3, g4, g5⟩ => (show wR bkJ14_init_rJ15 10 [a0, a1] [] h _ from wR.step ⟨⟨g3, g4⟩, ⟨g5, ⟨⟨g5, ⟨by decide, by decide⟩⟩, (show wR bkJ14_init_rJ15 38 [a0, a1] [] (tPut (tPut (tNew h 1003 a1 a1) a0 0 h.2.2.2.1) a0 1 0) _ from wR.step ⟨rfl, Ec0.symm, rfl⟩)⟩⟩⟩))⟩)⟩)))
    exact hF
  | [], hg => hg.elim
  | [_], hg => hg.elim
  | _ :: _ :: _ :: _, hg => hg.elim
def yJ14_length : MethodName := ⟨RJ14, "length", "()I"⟩
abbrev cJ14_length : ByteArray := prog_46_method_6_code
noncomputable def bJ14_length_rJ15_0 : tX := mx_load 0 (mx_getf 45 3 (mx_ret))
noncomputable def tbJ14_length_rJ15 : List tTe := [(0, ([(0, 2)], []), bJ14_length_rJ15_0)]
noncomputable def bkJ14_length_rJ15 : Nat → tX := tBk tbJ14_length_rJ15
noncomputable def fJ14_length_rJ15 : tFn := tFN [2] 1 bkJ14_length_rJ15
noncomputable def eJ14_length_rJ15 (D : tD) (b0 : Nat) : tM := (cJ14_length, 1, RJ14, tTy tbJ14_length_rJ15, D, b0, 0, 0, some (.int), false, [])
noncomputable def opsJ14_length_rJ15 : List tOpE := [(.getfield 79, 3, [2], [0], mx_getf 45 3)]
theorem okJ14_length_rJ15 (D : tD) (b0 : Nat) : ∀ q ∈ opsJ14_length_rJ15, OpOK (eJ14_length_rJ15 D b0) q := (List.forall_mem_cons.mpr ⟨opk_getf 45 3 0 rfl (Nat.le_of_ble_eq_true rfl) (Nat.le_of_ble_eq_true rfl) q2278 (Or.inl rfl) rfl, (fun q hq => by cases hq)⟩)
theorem ckJ14_length_rJ15_0 : ckS (tBy cJ14_length) opsJ14_length_rJ15 1 [(1, 0, 2), (0, 0, 0)] 0 [(0, 2)] [] = some (4, [(0, 2)], [0]) := by decide +kernel
theorem hsJ14_length_rJ15_0 (D : tD) (b0 : Nat) : tSx (eJ14_length_rJ15 D b0) 0 [(0, 2)] [] bJ14_length_rJ15_0 := ckS_ok (E := eJ14_length_rJ15 D b0) (T := mx_ret) (okJ14_length_rJ15 D b0) ckJ14_length_rJ15_0 (ms_iret (tDe (c := cJ14_length) (pc := 4) (i := .ireturn) (n := 1) (by decide +kernel)) rfl)
theorem sJ14_length_rJ15 (D : tD) (b0 : Nat) : tMX D b0 yJ14_length (ws_ yJ14_length cJ14_length 1 (some (.int))) (some (.int)) [2] 0 0 fJ14_length_rJ15 :=
  tMX.lim fun n => tMX.of n (te := tTy tbJ14_length_rJ15) (ini := false) pfJ14_length (fun h => by cases h) (Nat.le_of_ble_eq_true rfl) rfl rfl (tTb (E := eJ14_length_rJ15 D b0) rfl (List.forall_mem_cons.mpr ⟨hsJ14_length_rJ15_0 D b0, (fun q hq => by cases hq)⟩))
def fgJ14_length_rJ15 : List Int → tH → Prop := fun as h => match as with
  | [a0] => h.2.2.1 a0 = 45
  | _ => False
def fvJ14_length_rJ15 : List Int → tH → Int := fun as h => match as with
  | [a0] => (h.1.1 a0 3)
  | _ => 0
def fhJ14_length_rJ15 : List Int → tH → tH := fun as h => h
theorem zJ14_length_rJ15 : tZ fJ14_length_rJ15 fgJ14_length_rJ15 fvJ14_length_rJ15 fhJ14_length_rJ15 := fun as h hg => match as, hg with
  | [a0], hg => by
    obtain ⟨v, h2, hF, rfl, rfl⟩ := wN.of (ks := [2]) (nL := 1) (Bk := bkJ14_length_rJ15) (as := [a0]) (h := h) (Q := fun v h2 => v = fvJ14_length_rJ15 [a0] h ∧ h2 = fhJ14_length_rJ15 [a0] h) (wR.step (have Ec0 : fvJ14_length_rJ15 [a0] h = (h.1.1 a0 3) := rfl; (have g1 := hg; ⟨g1, ⟨rfl, Ec0.symm, rfl⟩⟩)))
    exact hF
  | [], hg => hg.elim
  | _ :: _ :: _, hg => hg.elim
def yJ14_ensureCapacityInternal : MethodName := ⟨RJ14, "ensureCapacityInternal", "(I)V"⟩
abbrev cJ14_ensureCapacityInternal : ByteArray := prog_46_method_9_code
noncomputable def bJ14_ensureCapacityInternal_rJ15_0 : tX := mx_load 0 (mx_getf 45 0 (mx_alen 3 (mx_load 0 (mx_getf 45 1 (mx_bin f_shr (mx_store 2 (mx_load 1 (mx_load 2 (mx_bin f_sub (mx_push 0 (mi_le (mx_go 38) mx_none)))))))))))
noncomputable def bJ14_ensureCapacityInternal_rJ15_38 : tX := mx_retv
noncomputable def tbJ14_ensureCapacityInternal_rJ15 : List tTe := [(0, ([(0, 2), (1, 0)], []), bJ14_ensureCapacityInternal_rJ15_0), (38, ([(0, 2), (1, 0), (2, 0)], []), bJ14_ensureCapacityInternal_rJ15_38)]
noncomputable def bkJ14_ensureCapacityInternal_rJ15 : Nat → tX := tBk tbJ14_ensureCapacityInternal_rJ15
noncomputable def fJ14_ensureCapacityInternal_rJ15 : tFn := tFN [2, 0] 3 bkJ14_ensureCapacityInternal_rJ15
noncomputable def eJ14_ensureCapacityInternal_rJ15 (D : tD) (b0 : Nat) : tM := (cJ14_ensureCapacityInternal, 3, RJ14, tTy tbJ14_ensureCapacityInternal_rJ15, D, b0, 0, 0, none, false, [])
noncomputable def opsJ14_ensureCapacityInternal_rJ15 : List tOpE := [(.getfield 15, 3, [2], [2], mx_getf 45 0), (.arraylength, 1, [2], [0], mx_alen 3), (.getfield 22, 3, [2], [0], mx_getf 45 1), (.ishr, 1, [0, 0], [0], mx_bin f_shr), (.isub, 1, [0, 0], [0], mx_bin f_sub)]
theorem okJ14_ensureCapacityInternal_rJ15 (D : tD) (b0 : Nat) : ∀ q ∈ opsJ14_ensureCapacityInternal_rJ15, OpOK (eJ14_ensureCapacityInternal_rJ15 D b0) q := (List.forall_mem_cons.mpr ⟨opk_getf 45 0 2 rfl (Nat.le_of_ble_eq_true rfl) (Nat.le_of_ble_eq_true rfl) q2275 (Or.inl rfl) rfl, (List.forall_mem_cons.mpr ⟨opk_alen 3 (Nat.le_of_ble_eq_true rfl) rfl, (List.forall_mem_cons.mpr ⟨opk_getf 45 1 0 rfl (Nat.le_of_ble_eq_true rfl) (Nat.le_of_ble_eq_true rfl) q2276 (Or.inl rfl) rfl, (List.forall_mem_cons.mpr ⟨opk_ishr, (List.forall_mem_cons.mpr ⟨opk_isub, (fun q hq => by cases hq)⟩)⟩)⟩)⟩)⟩)
theorem ckJ14_ensureCapacityInternal_rJ15_0 : ckS (tBy cJ14_ensureCapacityInternal) opsJ14_ensureCapacityInternal_rJ15 3 [(1, 0, 2), (0, 0, 0), (0, 1, 0), (1, 0, 2), (0, 2, 0), (0, 3, 0), (2, 2, 0), (1, 1, 0), (1, 2, 0), (0, 4, 0)] 0 [(0, 2), (1, 0)] [] = some (14, [(2, 0), (0, 2), (1, 0)], [0]) := by decide +kernel
theorem hsJ14_ensureCapacityInternal_rJ15_0 (D : tD) (b0 : Nat) : tSx (eJ14_ensureCapacityInternal_rJ15 D b0) 0 [(0, 2), (1, 0)] [] bJ14_ensureCapacityInternal_rJ15_0 := ckS_ok (E := eJ14_ensureCapacityInternal_rJ15 D b0) (T := mx_push 0 (mi_le (mx_go 38) mx_none)) (okJ14_ensureCapacityInternal_rJ15 D b0) ckJ14_ensureCapacityInternal_rJ15_0 (ms_if_le 38 (tDe (c := cJ14_ensureCapacityInternal) (pc := 14) (i := .ifCond .le 24) (n := 3) (by decide +kernel)) rfl (ms_at rfl rfl) ms_none)
theorem hsJ14_ensureCapacityInternal_rJ15_38 (D : tD) (b0 : Nat) : tSx (eJ14_ensureCapacityInternal_rJ15 D b0) 38 [(0, 2), (1, 0), (2, 0)] [] bJ14_ensureCapacityInternal_rJ15_38 := (ms_vret (tDe (c := cJ14_ensureCapacityInternal) (pc := 38) (i := .return_) (n := 1) (by decide +kernel)) rfl)
theorem sJ14_ensureCapacityInternal_rJ15 (D : tD) (b0 : Nat) : tMX D b0 yJ14_ensureCapacityInternal (ws_ yJ14_ensureCapacityInternal cJ14_ensureCapacityInternal 3 (none)) (none) [2, 0] 0 0 fJ14_ensureCapacityInternal_rJ15 :=
  tMX.lim fun n => tMX.of n (te := tTy tbJ14_ensureCapacityInternal_rJ15) (ini := false) pfJ14_ensureCapacityInternal (fun h => by cases h) (Nat.le_of_ble_eq_true rfl) rfl rfl (tTb (E := eJ14_ensureCapacityInternal_rJ15 D b0) rfl (List.forall_mem_cons.mpr ⟨hsJ14_ensureCapacityInternal_rJ15_0 D b0, (List.forall_mem_cons.mpr ⟨hsJ14_ensureCapacityInternal_rJ15_38 D b0, (fun q hq => by cases hq)⟩)⟩))
def fgJ14_ensureCapacityInternal_rJ15 : List Int → tH → Prop := fun as h => match as with
  | [a0, a1] => h.2.2.1 a0 = 45 ∧ h.2.2.1 (h.1.1 a0 0) = 1003 ∧ i32 (a1 - (f_shr (h.2.1 (h.1.1 a0 0)) (h.1.1 a0 1))) ∧ (¬ ((a1 - (f_shr (h.2.1 (h.1.1 a0 0)) (h.1.1 a0 1))) ≤ 0) → False)
  | _ => False
def fvJ14_ensureCapacityInternal_rJ15 : List Int → tH → Int := fun as h => match as with
  | [a0, a1] => (if (a1 - (f_shr (h.2.1 (h.1.1 a0 0)) (h.1.1 a0 1))) ≤ 0 then 0 else 0)
  | _ => 0
def fhJ14_ensureCapacityInternal_rJ15 : List Int → tH → tH := fun as h => h
theorem zJ14_ensureCapacityInternal_rJ15 : tZ fJ14_ensureCapacityInternal_rJ15 fgJ14_ensureCapacityInternal_rJ15 fvJ14_ensureCapacityInternal_rJ15 fhJ14_ensureCapacityInternal_rJ15 := fun as h hg => match as, hg with
  | [a0, a1], hg => by
    obtain ⟨v, h2, hF, rfl, rfl⟩ := wN.of (ks := [2, 0]) (nL := 3) (Bk := bkJ14_ensureCapacityInternal_rJ15) (as := [a0, a1]) (h := h) (Q := fun v h2 => v = fvJ14_ensureCapacityInternal_rJ15 [a0, a1] h ∧ h2 = fhJ14_ensureCapacityInternal_rJ15 [a0, a1] h) (wR.step (have Ec0 : fvJ14_ensureCapacityInternal_rJ15 [a0, a1] h = (if (a1 - (f_shr (h.2.1 (h.1.1 a0 0)) (h.1.1 a0 1))) ≤ 0 then 0 else 0) := rfl; (match hg with | ⟨g1, g2, g3, H5⟩ => ⟨g1, ⟨g2, ⟨g1, ⟨⟨g3, l32_0⟩, fun (c4 : (a1 - (f_shr (h.2.1 (h.1.1 a0 0)) (h.1.1 a0 1))) ≤ 0) => have Ec4 := Ec0.trans (if_pos c4); (show wR bkJ14_ensureCapacityInternal_rJ15 38 [a0, a1, (f_shr (h.2.1 (h.1.1 a0 0)) (h.1.1 a0 1))] [] h _ from wR.step ⟨rfl, Ec4.symm, rfl⟩), fun (c4 : ¬ ((a1 - (f_shr (h.2.1 (h.1.1 a0 0)) (h.1.1 a0 1))) ≤ 0)) => have Ec4 := Ec0.trans (if_neg c4); (have H6 := (H5 c4); H6)⟩⟩⟩⟩)))
    exact hF
  | [], hg => hg.elim
  | [_], hg => hg.elim
  | _ :: _ :: _ :: _, hg => hg.elim
def yJ14_isLatin1 : MethodName := ⟨RJ14, "isLatin1", "()Z"⟩
abbrev cJ14_isLatin1 : ByteArray := prog_46_method_68_code
noncomputable def bJ14_isLatin1_rJ15_0 : tX := mx_push 1 (mx_push 0 (mi_eq (mx_go 17) (mx_go 6)))
noncomputable def bJ14_isLatin1_rJ15_6 : tX := mx_load 0 (mx_getf 45 1 (mx_push 0 (mi_ne (mx_go 17) (mx_go 13))))
noncomputable def bJ14_isLatin1_rJ15_13 : tX := mx_push 1 (mx_go 18)
noncomputable def bJ14_isLatin1_rJ15_17 : tX := mx_push 0 (mx_go 18)
noncomputable def bJ14_isLatin1_rJ15_18 : tX := mx_retz
noncomputable def tbJ14_isLatin1_rJ15 : List tTe := [(0, ([(0, 2)], []), bJ14_isLatin1_rJ15_0), (6, ([(0, 2)], []), bJ14_isLatin1_rJ15_6), (13, ([(0, 2)], []), bJ14_isLatin1_rJ15_13), (17, ([(0, 2)], []), bJ14_isLatin1_rJ15_17), (18, ([(0, 2)], [0]), bJ14_isLatin1_rJ15_18)]
noncomputable def bkJ14_isLatin1_rJ15 : Nat → tX := tBk tbJ14_isLatin1_rJ15
noncomputable def fJ14_isLatin1_rJ15 : tFn := tFN [2] 1 bkJ14_isLatin1_rJ15
noncomputable def eJ14_isLatin1_rJ15 (D : tD) (b0 : Nat) : tM := (cJ14_isLatin1, 1, RJ14, tTy tbJ14_isLatin1_rJ15, D, b0, 0, 0, some (.boolean), false, [])
noncomputable def opsJ14_isLatin1_rJ15 : List tOpE := [(.getstatic 18, 3, [], [0], mx_push 1), (.getfield 22, 3, [2], [0], mx_getf 45 1), (.iconst 1, 1, [], [0], mx_push 1), (.iconst 0, 1, [], [0], mx_push 0)]
theorem okJ14_isLatin1_rJ15 (D : tD) (b0 : Nat) : ∀ q ∈ opsJ14_isLatin1_rJ15, OpOK (eJ14_isLatin1_rJ15 D b0) q := (List.forall_mem_cons.mpr ⟨(fun pc lt ts K hd hst hK => ms_getsC q2266 (Or.inl rfl) hd hK), (List.forall_mem_cons.mpr ⟨opk_getf 45 1 0 rfl (Nat.le_of_ble_eq_true rfl) (Nat.le_of_ble_eq_true rfl) q2276 (Or.inl rfl) rfl, (List.forall_mem_cons.mpr ⟨opk_iconst 1, (List.forall_mem_cons.mpr ⟨opk_iconst 0, (fun q hq => by cases hq)⟩)⟩)⟩)⟩)
theorem ckJ14_isLatin1_rJ15_0 : ckS (tBy cJ14_isLatin1) opsJ14_isLatin1_rJ15 1 [(0, 0, 0)] 0 [(0, 2)] [] = some (3, [(0, 2)], [0]) := by decide +kernel
theorem hsJ14_isLatin1_rJ15_0 (D : tD) (b0 : Nat) : tSx (eJ14_isLatin1_rJ15 D b0) 0 [(0, 2)] [] bJ14_isLatin1_rJ15_0 := ckS_ok (E := eJ14_isLatin1_rJ15 D b0) (T := mx_push 0 (mi_eq (mx_go 17) (mx_go 6))) (okJ14_isLatin1_rJ15 D b0) ckJ14_isLatin1_rJ15_0 (ms_if_eq 17 (tDe (c := cJ14_isLatin1) (pc := 3) (i := .ifCond .eq 14) (n := 3) (by decide +kernel)) rfl (ms_at rfl rfl) (ms_at rfl rfl))
theorem ckJ14_isLatin1_rJ15_6 : ckS (tBy cJ14_isLatin1) opsJ14_isLatin1_rJ15 1 [(1, 0, 2), (0, 1, 0)] 6 [(0, 2)] [] = some (10, [(0, 2)], [0]) := by decide +kernel
theorem hsJ14_isLatin1_rJ15_6 (D : tD) (b0 : Nat) : tSx (eJ14_isLatin1_rJ15 D b0) 6 [(0, 2)] [] bJ14_isLatin1_rJ15_6 := ckS_ok (E := eJ14_isLatin1_rJ15 D b0) (T := mx_push 0 (mi_ne (mx_go 17) (mx_go 13))) (okJ14_isLatin1_rJ15 D b0) ckJ14_isLatin1_rJ15_6 (ms_if_ne 17 (tDe (c := cJ14_isLatin1) (pc := 10) (i := .ifCond .ne 7) (n := 3) (by decide +kernel)) rfl (ms_at rfl rfl) (ms_at rfl rfl))
theorem ckJ14_isLatin1_rJ15_13 : ckS (tBy cJ14_isLatin1) opsJ14_isLatin1_rJ15 1 [(0, 2, 0)] 13 [(0, 2)] [] = some (14, [(0, 2)], [0]) := by decide +kernel
theorem hsJ14_isLatin1_rJ15_13 (D : tD) (b0 : Nat) : tSx (eJ14_isLatin1_rJ15 D b0) 13 [(0, 2)] [] bJ14_isLatin1_rJ15_13 := ckS_ok (E := eJ14_isLatin1_rJ15 D b0) (T := mx_go 18) (okJ14_isLatin1_rJ15 D b0) ckJ14_isLatin1_rJ15_13 (ms_goto 18 (tDe (c := cJ14_isLatin1) (pc := 14) (i := .goto 4) (n := 3) (by decide +kernel)) rfl (ms_at rfl rfl))
theorem ckJ14_isLatin1_rJ15_17 : ckS (tBy cJ14_isLatin1) opsJ14_isLatin1_rJ15 1 [(0, 3, 0)] 17 [(0, 2)] [] = some (18, [(0, 2)], [0]) := by decide +kernel
theorem hsJ14_isLatin1_rJ15_17 (D : tD) (b0 : Nat) : tSx (eJ14_isLatin1_rJ15 D b0) 17 [(0, 2)] [] bJ14_isLatin1_rJ15_17 := ckS_ok (E := eJ14_isLatin1_rJ15 D b0) (T := mx_go 18) (okJ14_isLatin1_rJ15 D b0) ckJ14_isLatin1_rJ15_17 (ms_at rfl rfl)
theorem hsJ14_isLatin1_rJ15_18 (D : tD) (b0 : Nat) : tSx (eJ14_isLatin1_rJ15 D b0) 18 [(0, 2)] [0] bJ14_isLatin1_rJ15_18 := (ms_zret (tDe (c := cJ14_isLatin1) (pc := 18) (i := .ireturn) (n := 1) (by decide +kernel)) rfl)
theorem sJ14_isLatin1_rJ15 (D : tD) (b0 : Nat) : tMX D b0 yJ14_isLatin1 (ws_ yJ14_isLatin1 cJ14_isLatin1 1 (some (.boolean))) (some (.boolean)) [2] 0 0 fJ14_isLatin1_rJ15 :=
  tMX.lim fun n => tMX.of n (te := tTy tbJ14_isLatin1_rJ15) (ini := false) pfJ14_isLatin1 (fun h => by cases h) (Nat.le_of_ble_eq_true rfl) rfl rfl (tTb (E := eJ14_isLatin1_rJ15 D b0) rfl (List.forall_mem_cons.mpr ⟨hsJ14_isLatin1_rJ15_0 D b0, (List.forall_mem_cons.mpr ⟨hsJ14_isLatin1_rJ15_6 D b0, (List.forall_mem_cons.mpr ⟨hsJ14_isLatin1_rJ15_13 D b0, (List.forall_mem_cons.mpr ⟨hsJ14_isLatin1_rJ15_17 D b0, (List.forall_mem_cons.mpr ⟨hsJ14_isLatin1_rJ15_18 D b0, (fun q hq => by cases hq)⟩)⟩)⟩)⟩)⟩))
def fgJ14_isLatin1_rJ15 : List Int → tH → Prop := fun as h => match as with
  | [a0] => h.2.2.1 a0 = 45 ∧ i32 (h.1.1 a0 1)
  | _ => False
def fvJ14_isLatin1_rJ15 : List Int → tH → Int := fun as h => match as with
  | [a0] => (if ¬ (h.1.1 a0 1) = 0 then 0 else 1)
  | _ => 0
def fhJ14_isLatin1_rJ15 : List Int → tH → tH := fun as h => h
theorem zJ14_isLatin1_rJ15 : tZ fJ14_isLatin1_rJ15 fgJ14_isLatin1_rJ15 fvJ14_isLatin1_rJ15 fhJ14_isLatin1_rJ15 := fun as h hg => match as, hg with
  | [a0], hg => by
    obtain ⟨v, h2, hF, rfl, rfl⟩ := wN.of (ks := [2]) (nL := 1) (Bk := bkJ14_isLatin1_rJ15) (as := [a0]) (h := h) (Q := fun v h2 => v = fvJ14_isLatin1_rJ15 [a0] h ∧ h2 = fhJ14_isLatin1_rJ15 [a0] h) (wR.step (have Ec0 : fvJ14_isLatin1_rJ15 [a0] h = (if ¬ (h.1.1 a0 1) = 0 then 0 else 1) := rfl; (have H5 := hg; ⟨⟨l32_1, l32_0⟩, fun (z : 1 = 0) => absurd z (by decide), fun _ => (match H5 with | ⟨g2, g3⟩ => (show wR bkJ14_isLatin1_rJ15 6 [a0] [] h _ from wR.step ⟨g2, ⟨⟨g3, l32_0⟩, fun (c4 : ¬ (h.1.1 a0 1) = 0) => have Ec4 := Ec0.trans (if_pos c4); (show wR bkJ14_isLatin1_rJ15 17 [a0] [] h _ from wR.step (show wR bkJ14_isLatin1_rJ15 18 [a0] [0] h _ from wR.step ⟨(Or.inl rfl), ⟨rfl, Ec4.symm, rfl⟩⟩)), fun (c4 : ¬ (¬ (h.1.1 a0 1) = 0)) => have Ec4 := Ec0.trans (if_neg c4); (show wR bkJ14_isLatin1_rJ15 13 [a0] [] h _ from wR.step (show wR bkJ14_isLatin1_rJ15 18 [a0] [1] h _ from wR.step ⟨(Or.inr rfl), ⟨rfl, Ec4.symm, rfl⟩⟩))⟩⟩))⟩)))
    exact hF
  | [], hg => hg.elim
  | _ :: _ :: _, hg => hg.elim
theorem fbJ14_isLatin1_rJ15 : ∀ as h, fvJ14_isLatin1_rJ15 as h = 0 ∨ fvJ14_isLatin1_rJ15 as h = 1 := by
  intro as h
  unfold fvJ14_isLatin1_rJ15
  repeat' split
  all_goals first | exact Or.inl rfl | exact Or.inr rfl
def yJ18_canEncode : MethodName := ⟨RJ18, "canEncode", "(C)Z"⟩
abbrev cJ18_canEncode : ByteArray := prog_61_method_3_code
noncomputable def bJ18_canEncode_0 : tX := mx_load 0 (mx_push 255 (mi_gt (mx_go 11) (mx_go 7)))
noncomputable def bJ18_canEncode_7 : tX := mx_push 1 (mx_go 12)
noncomputable def bJ18_canEncode_11 : tX := mx_push 0 (mx_go 12)
noncomputable def bJ18_canEncode_12 : tX := mx_retz
noncomputable def tbJ18_canEncode : List tTe := [(0, ([(0, 0)], []), bJ18_canEncode_0), (7, ([(0, 0)], []), bJ18_canEncode_7), (11, ([(0, 0)], []), bJ18_canEncode_11), (12, ([(0, 0)], [0]), bJ18_canEncode_12)]
noncomputable def bkJ18_canEncode : Nat → tX := tBk tbJ18_canEncode
noncomputable def fJ18_canEncode : tFn := tFN [0] 1 bkJ18_canEncode
noncomputable def eJ18_canEncode (D : tD) (b0 : Nat) : tM := (cJ18_canEncode, 1, RJ18, tTy tbJ18_canEncode, D, b0, 0, 0, some (.boolean), false, [])
noncomputable def opsJ18_canEncode : List tOpE := [(.sipush 255, 3, [], [0], mx_push 255), (.iconst 1, 1, [], [0], mx_push 1), (.iconst 0, 1, [], [0], mx_push 0)]
theorem okJ18_canEncode (D : tD) (b0 : Nat) : ∀ q ∈ opsJ18_canEncode, OpOK (eJ18_canEncode D b0) q := (List.forall_mem_cons.mpr ⟨opk_sipush sp_255, (List.forall_mem_cons.mpr ⟨opk_iconst 1, (List.forall_mem_cons.mpr ⟨opk_iconst 0, (fun q hq => by cases hq)⟩)⟩)⟩)
theorem ckJ18_canEncode_0 : ckS (tBy cJ18_canEncode) opsJ18_canEncode 1 [(1, 0, 0), (0, 0, 0)] 0 [(0, 0)] [] = some (4, [(0, 0)], [0, 0]) := by decide +kernel
theorem hsJ18_canEncode_0 (D : tD) (b0 : Nat) : tSx (eJ18_canEncode D b0) 0 [(0, 0)] [] bJ18_canEncode_0 := ckS_ok (E := eJ18_canEncode D b0) (T := mi_gt (mx_go 11) (mx_go 7)) (okJ18_canEncode D b0) ckJ18_canEncode_0 (ms_icmp_gt 11 (tDe (c := cJ18_canEncode) (pc := 4) (i := .if_icmp .gt 7) (n := 3) (by decide +kernel)) rfl (ms_at rfl rfl) (ms_at rfl rfl))
theorem ckJ18_canEncode_7 : ckS (tBy cJ18_canEncode) opsJ18_canEncode 1 [(0, 1, 0)] 7 [(0, 0)] [] = some (8, [(0, 0)], [0]) := by decide +kernel
theorem hsJ18_canEncode_7 (D : tD) (b0 : Nat) : tSx (eJ18_canEncode D b0) 7 [(0, 0)] [] bJ18_canEncode_7 := ckS_ok (E := eJ18_canEncode D b0) (T := mx_go 12) (okJ18_canEncode D b0) ckJ18_canEncode_7 (ms_goto 12 (tDe (c := cJ18_canEncode) (pc := 8) (i := .goto 4) (n := 3) (by decide +kernel)) rfl (ms_at rfl rfl))
theorem ckJ18_canEncode_11 : ckS (tBy cJ18_canEncode) opsJ18_canEncode 1 [(0, 2, 0)] 11 [(0, 0)] [] = some (12, [(0, 0)], [0]) := by decide +kernel
theorem hsJ18_canEncode_11 (D : tD) (b0 : Nat) : tSx (eJ18_canEncode D b0) 11 [(0, 0)] [] bJ18_canEncode_11 := ckS_ok (E := eJ18_canEncode D b0) (T := mx_go 12) (okJ18_canEncode D b0) ckJ18_canEncode_11 (ms_at rfl rfl)
theorem hsJ18_canEncode_12 (D : tD) (b0 : Nat) : tSx (eJ18_canEncode D b0) 12 [(0, 0)] [0] bJ18_canEncode_12 := (ms_zret (tDe (c := cJ18_canEncode) (pc := 12) (i := .ireturn) (n := 1) (by decide +kernel)) rfl)
theorem sJ18_canEncode (D : tD) (b0 : Nat) : tMX D b0 yJ18_canEncode (ws_ yJ18_canEncode cJ18_canEncode 1 (some (.boolean))) (some (.boolean)) [0] 0 0 fJ18_canEncode :=
  tMX.lim fun n => tMX.of n (te := tTy tbJ18_canEncode) (ini := false) pfJ18_canEncode (fun h => by cases h) (Nat.le_of_ble_eq_true rfl) rfl rfl (tTb (E := eJ18_canEncode D b0) rfl (List.forall_mem_cons.mpr ⟨hsJ18_canEncode_0 D b0, (List.forall_mem_cons.mpr ⟨hsJ18_canEncode_7 D b0, (List.forall_mem_cons.mpr ⟨hsJ18_canEncode_11 D b0, (List.forall_mem_cons.mpr ⟨hsJ18_canEncode_12 D b0, (fun q hq => by cases hq)⟩)⟩)⟩)⟩))
def fgJ18_canEncode : List Int → tH → Prop := fun as h => match as with
  | [a0] => i32 a0
  | _ => False
def fvJ18_canEncode : List Int → tH → Int := fun as h => match as with
  | [a0] => (if 255 < a0 then 0 else 1)
  | _ => 0
def fhJ18_canEncode : List Int → tH → tH := fun as h => h
theorem zJ18_canEncode : tZ fJ18_canEncode fgJ18_canEncode fvJ18_canEncode fhJ18_canEncode := fun as h hg => match as, hg with
  | [a0], hg => by
    obtain ⟨v, h2, hF, rfl, rfl⟩ := wN.of (ks := [0]) (nL := 1) (Bk := bkJ18_canEncode) (as := [a0]) (h := h) (Q := fun v h2 => v = fvJ18_canEncode [a0] h ∧ h2 = fhJ18_canEncode [a0] h) (wR.step (have Ec0 : fvJ18_canEncode [a0] h = (if 255 < a0 then 0 else 1) := rfl; (have g1 := hg; ⟨⟨g1, l32_255⟩, fun (c2 : 255 < a0) => have Ec2 := Ec0.trans (if_pos c2); (show wR bkJ18_canEncode 11 [a0] [] h _ from wR.step (show wR bkJ18_canEncode 12 [a0] [0] h _ from wR.step ⟨(Or.inl rfl), ⟨rfl, Ec2.symm, rfl⟩⟩)), fun (c2 : ¬ (255 < a0)) => have Ec2 := Ec0.trans (if_neg c2); (show wR bkJ18_canEncode 7 [a0] [] h _ from wR.step (show wR bkJ18_canEncode 12 [a0] [1] h _ from wR.step ⟨(Or.inr rfl), ⟨rfl, Ec2.symm, rfl⟩⟩))⟩)))
    exact hF
  | [], hg => hg.elim
  | _ :: _ :: _, hg => hg.elim
theorem fbJ18_canEncode : ∀ as h, fvJ18_canEncode as h = 0 ∨ fvJ18_canEncode as h = 1 := by
  intro as h
  unfold fvJ18_canEncode
  repeat' split
  all_goals first | exact Or.inl rfl | exact Or.inr rfl
def yJ14_append : MethodName := ⟨RJ14, "append", "(C)Ljava/lang/AbstractStringBuilder;"⟩
abbrev cJ14_append : ByteArray := prog_46_method_31_code
noncomputable def bJ14_append_rJ15_0 : tX := mx_load 0 (mx_load 0 (mx_getf 45 3 (mx_push 1 (mx_bin f_add (mv_callZv 45 fJ14_ensureCapacityInternal_rJ15 zJ14_ensureCapacityInternal_rJ15 2 (mx_go 10))))))
noncomputable def bJ14_append_rJ15_10 : tX := mx_load 0 (mv_callZ 45 fJ14_isLatin1_rJ15 zJ14_isLatin1_rJ15 1 (mx_push 0 (mi_eq mx_none (mx_go 17))))
noncomputable def bJ14_append_rJ15_17 : tX := mx_load 1 (mx_callZ fJ18_canEncode zJ18_canEncode 1 (mx_push 0 (mi_eq mx_none (mx_go 24))))
noncomputable def bJ14_append_rJ15_24 : tX := mx_load 0 (mx_getf 45 0 (mx_load 0 (mx_dup (mx_getf 45 3 (mx_dupx1 (mx_push 1 (mx_bin f_add (mx_putf 45 3 (fun _ => rfl) (mx_load 1 (mx_un f_i2b (mx_bast (mx_go 42))))))))))))
noncomputable def bJ14_append_rJ15_42 : tX := mx_go 75
noncomputable def bJ14_append_rJ15_75 : tX := mx_load 0 (mx_ret)
noncomputable def tbJ14_append_rJ15 : List tTe := [(0, ([(0, 2), (1, 0)], []), bJ14_append_rJ15_0), (10, ([(0, 2), (1, 0)], []), bJ14_append_rJ15_10), (17, ([(0, 2), (1, 0)], []), bJ14_append_rJ15_17), (24, ([(0, 2), (1, 0)], []), bJ14_append_rJ15_24), (42, ([(0, 2), (1, 0)], []), bJ14_append_rJ15_42), (75, ([(0, 2), (1, 0)], []), bJ14_append_rJ15_75)]
noncomputable def bkJ14_append_rJ15 : Nat → tX := tBk tbJ14_append_rJ15
noncomputable def fJ14_append_rJ15 : tFn := tFN [2, 0] 2 bkJ14_append_rJ15
noncomputable def eJ14_append_rJ15 (D : tD) (b0 : Nat) : tM := (cJ14_append, 2, RJ14, tTy tbJ14_append_rJ15, D, b0, 1, 46, some (.object "java/lang/AbstractStringBuilder"), false, [])
noncomputable def opsJ14_append_rJ15 : List tOpE := [(.getfield 79, 3, [2], [0], mx_getf 45 3), (.iconst 1, 1, [], [0], mx_push 1), (.iadd, 1, [0, 0], [0], mx_bin f_add), (.invokevirtual 100, 3, [0, 2], [], mv_callZv 45 fJ14_ensureCapacityInternal_rJ15 zJ14_ensureCapacityInternal_rJ15 2), (.invokevirtual 83, 3, [2], [0], mv_callZ 45 fJ14_isLatin1_rJ15 zJ14_isLatin1_rJ15 1), (.invokestatic 191, 3, [0], [0], mx_callZ fJ18_canEncode zJ18_canEncode 1), (.getfield 15, 3, [2], [2], mx_getf 45 0), (.dup, 1, [2], [2, 2], mx_dup), (.dup_x1, 1, [0, 2], [0, 2, 0], mx_dupx1), (.putfield 79, 3, [0, 2], [], mx_putf 45 3 (fun _ => rfl)), (.i2b, 1, [0], [0], mx_un f_i2b), (.bastore, 1, [0, 0, 2], [], mx_bast)]
theorem okJ14_append_rJ15 (D : tD) (b0 : Nat) : ∀ q ∈ opsJ14_append_rJ15, OpOK (eJ14_append_rJ15 D b0) q := (List.forall_mem_cons.mpr ⟨opk_getf 45 3 0 rfl (Nat.le_of_ble_eq_true rfl) (Nat.le_of_ble_eq_true rfl) q2278 (Or.inl rfl) rfl, (List.forall_mem_cons.mpr ⟨opk_iconst 1, (List.forall_mem_cons.mpr ⟨opk_iadd, (List.forall_mem_cons.mpr ⟨(fun pc lt ts K hd hst hK => ms_callVPZv (hz := zJ14_ensureCapacityInternal_rJ15) 45 [0] ts (sJ14_ensureCapacityInternal_rJ15 D b0) (Nat.le_of_ble_eq_true rfl) rfl q2302 q2304 q2303 q4398 q236 q2305 hcJ14 pd__pI_qV (Nat.le_of_ble_eq_true rfl) (Nat.le_trans (Nat.add_le_add_right (Nat.add_le_add_right hst _) _) (Nat.le_of_ble_eq_true rfl)) rfl rfl rfl rfl hd hK), (List.forall_mem_cons.mpr ⟨(fun pc lt ts K hd hst hK => ms_callVZ (hz := zJ14_isLatin1_rJ15) 45 [] ts (sJ14_isLatin1_rJ15 D b0) (Nat.le_of_ble_eq_true rfl) rfl q2322 q2323 q2325 q236 q2326 hcJ14 pd__p_qZ (Nat.le_of_ble_eq_true rfl) (Nat.le_trans (Nat.add_le_add_right (Nat.add_le_add_right hst _) _) (Nat.le_of_ble_eq_true rfl)) rfl rfl rfl rfl hd hK), (List.forall_mem_cons.mpr ⟨(fun pc lt ts K hd hst hK => ms_callSZ (hz := zJ18_canEncode) [0] ts (sJ18_canEncode D b0) q2327 q2328 q240 q2329 hcJ18 pd__pC_qZ (Nat.le_of_ble_eq_true rfl) (Nat.le_trans (Nat.add_le_add_right (Nat.add_le_add_right hst _) _) (Nat.le_of_ble_eq_true rfl)) rfl rfl rfl rfl hd hK), (List.forall_mem_cons.mpr ⟨opk_getf 45 0 2 rfl (Nat.le_of_ble_eq_true rfl) (Nat.le_of_ble_eq_true rfl) q2275 (Or.inl rfl) rfl, (List.forall_mem_cons.mpr ⟨opk_dup2_, (List.forall_mem_cons.mpr ⟨(fun pc lt ts K hd hst hK => ms_dupx1 (by decide) (by decide) hd hK), (List.forall_mem_cons.mpr ⟨opk_putf 45 3 0 rfl (Nat.le_of_ble_eq_true rfl) (Nat.le_of_ble_eq_true rfl) q2278 (Or.inl rfl) (Or.inl rfl) rfl, (List.forall_mem_cons.mpr ⟨opk_i2b, (List.forall_mem_cons.mpr ⟨opk_bast, (fun q hq => by cases hq)⟩)⟩)⟩)⟩)⟩)⟩)⟩)⟩)⟩)⟩)⟩)⟩)
theorem ckJ14_append_rJ15_0 : ckS (tBy cJ14_append) opsJ14_append_rJ15 2 [(1, 0, 2), (1, 0, 2), (0, 0, 0), (0, 1, 0), (0, 2, 0), (0, 3, 0)] 0 [(0, 2), (1, 0)] [] = some (10, [(0, 2), (1, 0)], []) := by decide +kernel
theorem hsJ14_append_rJ15_0 (D : tD) (b0 : Nat) : tSx (eJ14_append_rJ15 D b0) 0 [(0, 2), (1, 0)] [] bJ14_append_rJ15_0 := ckS_ok (E := eJ14_append_rJ15 D b0) (T := mx_go 10) (okJ14_append_rJ15 D b0) ckJ14_append_rJ15_0 (ms_at rfl rfl)
theorem ckJ14_append_rJ15_10 : ckS (tBy cJ14_append) opsJ14_append_rJ15 2 [(1, 0, 2), (0, 4, 0)] 10 [(0, 2), (1, 0)] [] = some (14, [(0, 2), (1, 0)], [0]) := by decide +kernel
theorem hsJ14_append_rJ15_10 (D : tD) (b0 : Nat) : tSx (eJ14_append_rJ15 D b0) 10 [(0, 2), (1, 0)] [] bJ14_append_rJ15_10 := ckS_ok (E := eJ14_append_rJ15 D b0) (T := mx_push 0 (mi_eq mx_none (mx_go 17))) (okJ14_append_rJ15 D b0) ckJ14_append_rJ15_10 (ms_if_eq 45 (tDe (c := cJ14_append) (pc := 14) (i := .ifCond .eq 31) (n := 3) (by decide +kernel)) rfl ms_none (ms_at rfl rfl))
theorem ckJ14_append_rJ15_17 : ckS (tBy cJ14_append) opsJ14_append_rJ15 2 [(1, 1, 0), (0, 5, 0)] 17 [(0, 2), (1, 0)] [] = some (21, [(0, 2), (1, 0)], [0]) := by decide +kernel
theorem hsJ14_append_rJ15_17 (D : tD) (b0 : Nat) : tSx (eJ14_append_rJ15 D b0) 17 [(0, 2), (1, 0)] [] bJ14_append_rJ15_17 := ckS_ok (E := eJ14_append_rJ15 D b0) (T := mx_push 0 (mi_eq mx_none (mx_go 24))) (okJ14_append_rJ15 D b0) ckJ14_append_rJ15_17 (ms_if_eq 45 (tDe (c := cJ14_append) (pc := 21) (i := .ifCond .eq 24) (n := 3) (by decide +kernel)) rfl ms_none (ms_at rfl rfl))
theorem ckJ14_append_rJ15_24 : ckS (tBy cJ14_append) opsJ14_append_rJ15 2 [(1, 0, 2), (0, 6, 0), (1, 0, 2), (0, 7, 0), (0, 0, 0), (0, 8, 0), (0, 1, 0), (0, 2, 0), (0, 9, 0), (1, 1, 0), (0, 10, 0), (0, 11, 0)] 24 [(0, 2), (1, 0)] [] = some (42, [(0, 2), (1, 0)], []) := by decide +kernel
theorem hsJ14_append_rJ15_24 (D : tD) (b0 : Nat) : tSx (eJ14_append_rJ15 D b0) 24 [(0, 2), (1, 0)] [] bJ14_append_rJ15_24 := ckS_ok (E := eJ14_append_rJ15 D b0) (T := mx_go 42) (okJ14_append_rJ15 D b0) ckJ14_append_rJ15_24 (ms_at rfl rfl)
theorem hsJ14_append_rJ15_42 (D : tD) (b0 : Nat) : tSx (eJ14_append_rJ15 D b0) 42 [(0, 2), (1, 0)] [] bJ14_append_rJ15_42 := (ms_goto 75 (tDe (c := cJ14_append) (pc := 42) (i := .goto 33) (n := 3) (by decide +kernel)) rfl (ms_at rfl rfl))
theorem ckJ14_append_rJ15_75 : ckS (tBy cJ14_append) opsJ14_append_rJ15 2 [(1, 0, 2)] 75 [(0, 2), (1, 0)] [] = some (76, [(0, 2), (1, 0)], [2]) := by decide +kernel
theorem hsJ14_append_rJ15_75 (D : tD) (b0 : Nat) : tSx (eJ14_append_rJ15 D b0) 75 [(0, 2), (1, 0)] [] bJ14_append_rJ15_75 := ckS_ok (E := eJ14_append_rJ15 D b0) (T := mx_ret) (okJ14_append_rJ15 D b0) ckJ14_append_rJ15_75 (ms_aret _ (tDe (c := cJ14_append) (pc := 76) (i := .areturn) (n := 1) (by decide +kernel)) rfl (Or.inl ⟨_, rfl⟩))
theorem sJ14_append_rJ15 (D : tD) (b0 : Nat) : tMX D b0 yJ14_append (ws_ yJ14_append cJ14_append 2 (some (.object "java/lang/AbstractStringBuilder"))) (some (.object "java/lang/AbstractStringBuilder")) [2, 0] 1 46 fJ14_append_rJ15 :=
  tMX.lim fun n => tMX.of n (te := tTy tbJ14_append_rJ15) (ini := false) pfJ14_append (fun h => by cases h) (Nat.le_of_ble_eq_true rfl) rfl rfl (tTb (E := eJ14_append_rJ15 D b0) rfl (List.forall_mem_cons.mpr ⟨hsJ14_append_rJ15_0 D b0, (List.forall_mem_cons.mpr ⟨hsJ14_append_rJ15_10 D b0, (List.forall_mem_cons.mpr ⟨hsJ14_append_rJ15_17 D b0, (List.forall_mem_cons.mpr ⟨hsJ14_append_rJ15_24 D b0, (List.forall_mem_cons.mpr ⟨hsJ14_append_rJ15_42 D b0, (List.forall_mem_cons.mpr ⟨hsJ14_append_rJ15_75 D b0, (fun q hq => by cases hq)⟩)⟩)⟩)⟩)⟩)⟩))
def fgJ14_append_rJ15 : List Int → tH → Prop := fun as h => match as with
  | [a0, a1] => h.2.2.1 a0 = 45 ∧ fgJ14_ensureCapacityInternal_rJ15 [a0, ((h.1.1 a0 3) + 1)] h ∧ fgJ14_isLatin1_rJ15 [a0] h ∧ i32 (fvJ14_isLatin1_rJ15 [a0] h) ∧ ((fvJ14_isLatin1_rJ15 [a0] h) = 0 → False) ∧ (¬ ((fvJ14_isLatin1_rJ15 [a0] h) = 0) → fgJ18_canEncode [a1] h ∧ i32 (fvJ18_canEncode [a1] h) ∧ ((fvJ18_canEncode [a1] h) = 0 → False) ∧ (¬ ((fvJ18_canEncode [a1] h) = 0) → h.2.2.1 (h.1.1 a0 0) = 1003 ∧ 0 ≤ (h.1.1 a0 3) ∧ (h.1.1 a0 3) < h.2.1 (h.1.1 a0 0) ∧ -128 ≤ (f_i2b a1) ∧ (f_i2b a1) ≤ 127))
  | _ => False
def fvJ14_append_rJ15 : List Int → tH → Int := fun as h => match as with
  | [a0, a1] => (if (fvJ14_isLatin1_rJ15 [a0] h) = 0 then 0 else (if (fvJ18_canEncode [a1] h) = 0 then 0 else a0))
  | _ => 0
def fhJ14_append_rJ15 : List Int → tH → tH := fun as h => match as with
  | [a0, a1] => (tPutA (tPut h a0 3 ((h.1.1 a0 3) + 1)) (h.1.1 a0 0) (h.1.1 a0 3) (f_i2b a1))
  | _ => h
theorem zJ14_append_rJ15 : tZ fJ14_append_rJ15 fgJ14_append_rJ15 fvJ14_append_rJ15 fhJ14_append_rJ15 := fun as h hg => match as, hg with
  | [a0, a1], hg => by
    obtain ⟨v, h2, hF, rfl, rfl⟩ := wN.of (ks := [2, 0]) (nL := 2) (Bk := bkJ14_append_rJ15) (as := [a0, a1]) (h := h) (Q := fun v h2 => v = fvJ14_append_rJ15 [a0, a1] h ∧ h2 = fhJ14_append_rJ15 [a0, a1] h) (wR.step (have Ec0 : fvJ14_append_rJ15 [a0, a1] h = (if (fvJ14_isLatin1_rJ15 [a0] h) = 0 then 0 else (if (fvJ18_canEncode [a1] h) = 0 then 0 else a0)) := rfl; (match hg with | ⟨g1, g2, g3, g4, H14, H15⟩ => ⟨g1, ⟨g1, g2, (show wR bkJ14_append_rJ15 10 [a0, a1] [] h _ from wR.step ⟨g1, g3, ⟨⟨g4, l32_0⟩, fun (c5 : (fvJ14_isLatin1_rJ15 [a0] h) = 0) => have Ec5 := Ec0.trans (if_pos c5); (have H16 := (H14 c5); H16), fun (c5 : ¬ ((fvJ14_isLatin1_rJ15 [a0] h) = 0)) => have Ec5 := Ec0.trans (if_neg c5); (match (H15 c5) with | ⟨g6, g7, H17, H18⟩ => (show wR bkJ14_append_rJ15 17 [a0, a1] [] h _ from wR.step ⟨g6, ⟨⟨g7, l32_0⟩, fun (c8 : (fvJ18_canEncode [a1] h) = 0) => have Ec8 := Ec5.trans (if_pos c8); (have H19 := (H17 c8); H19), fun (c8 : ¬ ((fvJ18_canEncode [a1] h) = 0)) => have Ec8 := Ec5.trans (if_neg c8); (match (H18 c8) with | ⟨g9, g10, g11, g12, g13⟩ => (show wR bkJ14_append_rJ15 24 [a0, a1] [] h _ from wR.step ⟨g1, ⟨g1, ⟨g1, ⟨⟨g9, g10, g11⟩, ⟨g12, g13⟩, (show wR bkJ14_append_rJ15 42 [a0, a1] [] (tPutA (tPut h a0 3 ((h.1.1 a0 3) + 1)) (h.1.1 a0 0) (h.1.1 a0 3) (f_i2b a1)) _ from wR.step (show wR bkJ14_append_rJ15 75 [a0, a1] [] (tPutA (tPut h a0 3 ((h.1.1 a0 3) + 1)) (h.1.1 a0 0) (h.1.1 a0 3) (f_i2b a1)) _ from wR.step ⟨rfl, Ec8.symm, rfl⟩))⟩⟩⟩⟩))⟩⟩))⟩⟩)⟩⟩)))
    exact hF
  | [], hg => hg.elim
  | [_], hg => hg.elim
  | _ :: _ :: _ :: _, hg => hg.elim
def yJ14_getValue : MethodName := ⟨RJ14, "getValue", "()[B"⟩
abbrev cJ14_getValue : ByteArray := prog_46_method_64_code
noncomputable def bJ14_getValue_rJ15_0 : tX := mx_load 0 (mx_getf 45 0 (mx_ret))
noncomputable def tbJ14_getValue_rJ15 : List tTe := [(0, ([(0, 2)], []), bJ14_getValue_rJ15_0)]
noncomputable def bkJ14_getValue_rJ15 : Nat → tX := tBk tbJ14_getValue_rJ15
noncomputable def fJ14_getValue_rJ15 : tFn := tFN [2] 1 bkJ14_getValue_rJ15
noncomputable def eJ14_getValue_rJ15 (D : tD) (b0 : Nat) : tM := (cJ14_getValue, 1, RJ14, tTy tbJ14_getValue_rJ15, D, b0, 0, 0, some (.array (.byte)), false, [])
noncomputable def opsJ14_getValue_rJ15 : List tOpE := [(.getfield 15, 3, [2], [2], mx_getf 45 0)]
theorem okJ14_getValue_rJ15 (D : tD) (b0 : Nat) : ∀ q ∈ opsJ14_getValue_rJ15, OpOK (eJ14_getValue_rJ15 D b0) q := (List.forall_mem_cons.mpr ⟨opk_getf 45 0 2 rfl (Nat.le_of_ble_eq_true rfl) (Nat.le_of_ble_eq_true rfl) q2275 (Or.inl rfl) rfl, (fun q hq => by cases hq)⟩)
theorem ckJ14_getValue_rJ15_0 : ckS (tBy cJ14_getValue) opsJ14_getValue_rJ15 1 [(1, 0, 2), (0, 0, 0)] 0 [(0, 2)] [] = some (4, [(0, 2)], [2]) := by decide +kernel
theorem hsJ14_getValue_rJ15_0 (D : tD) (b0 : Nat) : tSx (eJ14_getValue_rJ15 D b0) 0 [(0, 2)] [] bJ14_getValue_rJ15_0 := ckS_ok (E := eJ14_getValue_rJ15 D b0) (T := mx_ret) (okJ14_getValue_rJ15 D b0) ckJ14_getValue_rJ15_0 (ms_aret _ (tDe (c := cJ14_getValue) (pc := 4) (i := .areturn) (n := 1) (by decide +kernel)) rfl (Or.inr ⟨_, rfl⟩))
theorem sJ14_getValue_rJ15 (D : tD) (b0 : Nat) : tMX D b0 yJ14_getValue (ws_ yJ14_getValue cJ14_getValue 1 (some (.array (.byte)))) (some (.array (.byte))) [2] 0 0 fJ14_getValue_rJ15 :=
  tMX.lim fun n => tMX.of n (te := tTy tbJ14_getValue_rJ15) (ini := false) pfJ14_getValue (fun h => by cases h) (Nat.le_of_ble_eq_true rfl) rfl rfl (tTb (E := eJ14_getValue_rJ15 D b0) rfl (List.forall_mem_cons.mpr ⟨hsJ14_getValue_rJ15_0 D b0, (fun q hq => by cases hq)⟩))
def fgJ14_getValue_rJ15 : List Int → tH → Prop := fun as h => match as with
  | [a0] => h.2.2.1 a0 = 45
  | _ => False
def fvJ14_getValue_rJ15 : List Int → tH → Int := fun as h => match as with
  | [a0] => (h.1.1 a0 0)
  | _ => 0
def fhJ14_getValue_rJ15 : List Int → tH → tH := fun as h => h
theorem zJ14_getValue_rJ15 : tZ fJ14_getValue_rJ15 fgJ14_getValue_rJ15 fvJ14_getValue_rJ15 fhJ14_getValue_rJ15 := fun as h hg => match as, hg with
  | [a0], hg => by
    obtain ⟨v, h2, hF, rfl, rfl⟩ := wN.of (ks := [2]) (nL := 1) (Bk := bkJ14_getValue_rJ15) (as := [a0]) (h := h) (Q := fun v h2 => v = fvJ14_getValue_rJ15 [a0] h ∧ h2 = fhJ14_getValue_rJ15 [a0] h) (wR.step (have Ec0 : fvJ14_getValue_rJ15 [a0] h = (h.1.1 a0 0) := rfl; (have g1 := hg; ⟨g1, ⟨rfl, Ec0.symm, rfl⟩⟩)))
    exact hF
  | [], hg => hg.elim
  | _ :: _ :: _, hg => hg.elim
def yJ15_init : MethodName := ⟨RJ15, "<init>", "(I)V"⟩
abbrev cJ15_init : ByteArray := prog_60_method_2_code
noncomputable def bJ15_init_0 : tX := mx_load 0 (mx_load 1 (mv_callZv 45 fJ14_init_rJ15 zJ14_init_rJ15 2 (mx_go 5)))
noncomputable def bJ15_init_5 : tX := mx_retv
noncomputable def tbJ15_init : List tTe := [(0, ([(0, 2), (1, 0)], []), bJ15_init_0), (5, ([(0, 2), (1, 0)], []), bJ15_init_5)]
noncomputable def bkJ15_init : Nat → tX := tBk tbJ15_init
noncomputable def fJ15_init : tFn := tFN [2, 0] 2 bkJ15_init
noncomputable def eJ15_init (D : tD) (b0 : Nat) : tM := (cJ15_init, 2, RJ15, tTy tbJ15_init, D, b0, 2, 89, none, true, [])
noncomputable def opsJ15_init : List tOpE := [(.invokespecial 1, 3, [0, 2], [], mv_callZv 45 fJ14_init_rJ15 zJ14_init_rJ15 2)]
theorem okJ15_init (D : tD) (b0 : Nat) : ∀ q ∈ opsJ15_init, OpOK (eJ15_init D b0) q := (List.forall_mem_cons.mpr ⟨(fun pc lt ts K hd hst hK => ms_callIZv (hz := zJ14_init_rJ15) 45 [0] ts (sJ14_init_rJ15 D b0) (Nat.le_of_ble_eq_true rfl) rfl rfl q2262 q2263 q236 q2264 hcJ14 pd__pI_qV (Nat.le_of_ble_eq_true rfl) (Nat.le_trans (Nat.add_le_add_right (Nat.add_le_add_right hst _) _) (Nat.le_of_ble_eq_true rfl)) rfl rfl rfl hd hK), (fun q hq => by cases hq)⟩)
theorem ckJ15_init_0 : ckS (tBy cJ15_init) opsJ15_init 2 [(1, 0, 2), (1, 1, 0), (0, 0, 0)] 0 [(0, 2), (1, 0)] [] = some (5, [(0, 2), (1, 0)], []) := by decide +kernel
theorem hsJ15_init_0 (D : tD) (b0 : Nat) : tSx (eJ15_init D b0) 0 [(0, 2), (1, 0)] [] bJ15_init_0 := ckS_ok (E := eJ15_init D b0) (T := mx_go 5) (okJ15_init D b0) ckJ15_init_0 (ms_at rfl rfl)
theorem hsJ15_init_5 (D : tD) (b0 : Nat) : tSx (eJ15_init D b0) 5 [(0, 2), (1, 0)] [] bJ15_init_5 := (ms_vret (tDe (c := cJ15_init) (pc := 5) (i := .return_) (n := 1) (by decide +kernel)) rfl)
theorem sJ15_init (D : tD) (b0 : Nat) : tMX D b0 yJ15_init (ws_ yJ15_init cJ15_init 2 (none)) (none) [2, 0] 2 89 fJ15_init :=
  tMX.lim fun n => tMX.of n (te := tTy tbJ15_init) (ini := true) pfJ15_init (fun h => by rfl) (Nat.le_of_ble_eq_true rfl) rfl rfl (tTb (E := eJ15_init D b0) rfl (List.forall_mem_cons.mpr ⟨hsJ15_init_0 D b0, (List.forall_mem_cons.mpr ⟨hsJ15_init_5 D b0, (fun q hq => by cases hq)⟩)⟩))
def fgJ15_init : List Int → tH → Prop := fun as h => match as with
  | [a0, a1] => h.2.2.1 a0 = 45 ∧ fgJ14_init_rJ15 [a0, a1] h
  | _ => False
def fvJ15_init : List Int → tH → Int := fun as h => match as with
  | [a0, a1] => 0
  | _ => 0
def fhJ15_init : List Int → tH → tH := fun as h => match as with
  | [a0, a1] => (fhJ14_init_rJ15 [a0, a1] h)
  | _ => h
theorem zJ15_init : tZ fJ15_init fgJ15_init fvJ15_init fhJ15_init := fun as h hg => match as, hg with
  | [a0, a1], hg => by
    obtain ⟨v, h2, hF, rfl, rfl⟩ := wN.of (ks := [2, 0]) (nL := 2) (Bk := bkJ15_init) (as := [a0, a1]) (h := h) (Q := fun v h2 => v = fvJ15_init [a0, a1] h ∧ h2 = fhJ15_init [a0, a1] h) (wR.step (have Ec0 : fvJ15_init [a0, a1] h = 0 := rfl; (match hg with | ⟨g1, g2⟩ => ⟨g1, g2, (show wR bkJ15_init 5 [a0, a1] [] (fhJ14_init_rJ15 [a0, a1] h) _ from wR.step ⟨rfl, Ec0.symm, rfl⟩)⟩)))
    exact hF
  | [], hg => hg.elim
  | [_], hg => hg.elim
  | _ :: _ :: _ :: _, hg => hg.elim
def yJ15_length : MethodName := ⟨RJ15, "length", "()I"⟩
abbrev cJ15_length : ByteArray := prog_60_method_93_code
noncomputable def bJ15_length_0 : tX := mx_load 0 (mv_callZ 45 fJ14_length_rJ15 zJ14_length_rJ15 1 (mx_ret))
noncomputable def tbJ15_length : List tTe := [(0, ([(0, 2)], []), bJ15_length_0)]
noncomputable def bkJ15_length : Nat → tX := tBk tbJ15_length
noncomputable def fJ15_length : tFn := tFN [2] 1 bkJ15_length
noncomputable def eJ15_length (D : tD) (b0 : Nat) : tM := (cJ15_length, 1, RJ15, tTy tbJ15_length, D, b0, 1, 44, some (.int), false, [])
noncomputable def opsJ15_length : List tOpE := [(.invokespecial 343, 3, [2], [0], mv_callZ 45 fJ14_length_rJ15 zJ14_length_rJ15 1)]
theorem okJ15_length (D : tD) (b0 : Nat) : ∀ q ∈ opsJ15_length, OpOK (eJ15_length D b0) q := (List.forall_mem_cons.mpr ⟨(fun pc lt ts K hd hst hK => ms_callSUZ (hz := zJ14_length_rJ15) 45 [] ts (sJ14_length_rJ15 D b0) (Nat.le_of_ble_eq_true rfl) rfl q2292 q2293 q4396 q2287 (by decide) q236 q2294 hcJ14 pd__p_qI (Nat.le_of_ble_eq_true rfl) (Nat.le_trans (Nat.add_le_add_right (Nat.add_le_add_right hst _) _) (Nat.le_of_ble_eq_true rfl)) rfl rfl rfl rfl hd hK), (fun q hq => by cases hq)⟩)
theorem ckJ15_length_0 : ckS (tBy cJ15_length) opsJ15_length 1 [(1, 0, 2), (0, 0, 0)] 0 [(0, 2)] [] = some (4, [(0, 2)], [0]) := by decide +kernel
theorem hsJ15_length_0 (D : tD) (b0 : Nat) : tSx (eJ15_length D b0) 0 [(0, 2)] [] bJ15_length_0 := ckS_ok (E := eJ15_length D b0) (T := mx_ret) (okJ15_length D b0) ckJ15_length_0 (ms_iret (tDe (c := cJ15_length) (pc := 4) (i := .ireturn) (n := 1) (by decide +kernel)) rfl)
theorem sJ15_length (D : tD) (b0 : Nat) : tMX D b0 yJ15_length (ws_ yJ15_length cJ15_length 1 (some (.int))) (some (.int)) [2] 1 44 fJ15_length :=
  tMX.lim fun n => tMX.of n (te := tTy tbJ15_length) (ini := false) pfJ15_length (fun h => by cases h) (Nat.le_of_ble_eq_true rfl) rfl rfl (tTb (E := eJ15_length D b0) rfl (List.forall_mem_cons.mpr ⟨hsJ15_length_0 D b0, (fun q hq => by cases hq)⟩))
def fgJ15_length : List Int → tH → Prop := fun as h => match as with
  | [a0] => h.2.2.1 a0 = 45 ∧ fgJ14_length_rJ15 [a0] h
  | _ => False
def fvJ15_length : List Int → tH → Int := fun as h => match as with
  | [a0] => (fvJ14_length_rJ15 [a0] h)
  | _ => 0
def fhJ15_length : List Int → tH → tH := fun as h => h
theorem zJ15_length : tZ fJ15_length fgJ15_length fvJ15_length fhJ15_length := fun as h hg => match as, hg with
  | [a0], hg => by
    obtain ⟨v, h2, hF, rfl, rfl⟩ := wN.of (ks := [2]) (nL := 1) (Bk := bkJ15_length) (as := [a0]) (h := h) (Q := fun v h2 => v = fvJ15_length [a0] h ∧ h2 = fhJ15_length [a0] h) (wR.step (have Ec0 : fvJ15_length [a0] h = (fvJ14_length_rJ15 [a0] h) := rfl; (match hg with | ⟨g1, g2⟩ => ⟨g1, g2, ⟨rfl, Ec0.symm, rfl⟩⟩)))
    exact hF
  | [], hg => hg.elim
  | _ :: _ :: _, hg => hg.elim
def yJ15_append : MethodName := ⟨RJ15, "append", "(C)Ljava/lang/StringBuilder;"⟩
abbrev cJ15_append : ByteArray := prog_60_method_14_code
noncomputable def bJ15_append_0 : tX := mx_load 0 (mx_load 1 (mv_callZ 45 fJ14_append_rJ15 zJ14_append_rJ15 2 (mx_pop (mx_go 6))))
noncomputable def bJ15_append_6 : tX := mx_load 0 (mx_ret)
noncomputable def tbJ15_append : List tTe := [(0, ([(0, 2), (1, 0)], []), bJ15_append_0), (6, ([(0, 2), (1, 0)], []), bJ15_append_6)]
noncomputable def bkJ15_append : Nat → tX := tBk tbJ15_append
noncomputable def fJ15_append : tFn := tFN [2, 0] 2 bkJ15_append
noncomputable def eJ15_append (D : tD) (b0 : Nat) : tM := (cJ15_append, 2, RJ15, tTy tbJ15_append, D, b0, 2, 91, some (.object "java/lang/StringBuilder"), false, [])
noncomputable def opsJ15_append : List tOpE := [(.invokespecial 50, 3, [0, 2], [2], mv_callZ 45 fJ14_append_rJ15 zJ14_append_rJ15 2), (.pop, 1, [2], [], mx_pop)]
theorem okJ15_append (D : tD) (b0 : Nat) : ∀ q ∈ opsJ15_append, OpOK (eJ15_append D b0) q := (List.forall_mem_cons.mpr ⟨(fun pc lt ts K hd hst hK => ms_callSUZ (hz := zJ14_append_rJ15) 45 [0] ts (sJ14_append_rJ15 D b0) (Nat.le_of_ble_eq_true rfl) rfl q2299 q2300 q4397 q2287 (by decide) q236 q2301 hcJ14 pd__pC_qLjava_slang_sAbstractStringBuilder_c (Nat.le_of_ble_eq_true rfl) (Nat.le_trans (Nat.add_le_add_right (Nat.add_le_add_right hst _) _) (Nat.le_of_ble_eq_true rfl)) rfl rfl rfl rfl hd hK), (List.forall_mem_cons.mpr ⟨opk_pop2_, (fun q hq => by cases hq)⟩)⟩)
theorem ckJ15_append_0 : ckS (tBy cJ15_append) opsJ15_append 2 [(1, 0, 2), (1, 1, 0), (0, 0, 0), (0, 1, 0)] 0 [(0, 2), (1, 0)] [] = some (6, [(0, 2), (1, 0)], []) := by decide +kernel
theorem hsJ15_append_0 (D : tD) (b0 : Nat) : tSx (eJ15_append D b0) 0 [(0, 2), (1, 0)] [] bJ15_append_0 := ckS_ok (E := eJ15_append D b0) (T := mx_go 6) (okJ15_append D b0) ckJ15_append_0 (ms_at rfl rfl)
theorem ckJ15_append_6 : ckS (tBy cJ15_append) opsJ15_append 2 [(1, 0, 2)] 6 [(0, 2), (1, 0)] [] = some (7, [(0, 2), (1, 0)], [2]) := by decide +kernel
theorem hsJ15_append_6 (D : tD) (b0 : Nat) : tSx (eJ15_append D b0) 6 [(0, 2), (1, 0)] [] bJ15_append_6 := ckS_ok (E := eJ15_append D b0) (T := mx_ret) (okJ15_append D b0) ckJ15_append_6 (ms_aret _ (tDe (c := cJ15_append) (pc := 7) (i := .areturn) (n := 1) (by decide +kernel)) rfl (Or.inl ⟨_, rfl⟩))
theorem sJ15_append (D : tD) (b0 : Nat) : tMX D b0 yJ15_append (ws_ yJ15_append cJ15_append 2 (some (.object "java/lang/StringBuilder"))) (some (.object "java/lang/StringBuilder")) [2, 0] 2 91 fJ15_append :=
  tMX.lim fun n => tMX.of n (te := tTy tbJ15_append) (ini := false) pfJ15_append (fun h => by cases h) (Nat.le_of_ble_eq_true rfl) rfl rfl (tTb (E := eJ15_append D b0) rfl (List.forall_mem_cons.mpr ⟨hsJ15_append_0 D b0, (List.forall_mem_cons.mpr ⟨hsJ15_append_6 D b0, (fun q hq => by cases hq)⟩)⟩))
def fgJ15_append : List Int → tH → Prop := fun as h => match as with
  | [a0, a1] => h.2.2.1 a0 = 45 ∧ fgJ14_append_rJ15 [a0, a1] h
  | _ => False
def fvJ15_append : List Int → tH → Int := fun as h => match as with
  | [a0, a1] => a0
  | _ => 0
def fhJ15_append : List Int → tH → tH := fun as h => match as with
  | [a0, a1] => (fhJ14_append_rJ15 [a0, a1] h)
  | _ => h
theorem zJ15_append : tZ fJ15_append fgJ15_append fvJ15_append fhJ15_append := fun as h hg => match as, hg with
  | [a0, a1], hg => by
    obtain ⟨v, h2, hF, rfl, rfl⟩ := wN.of (ks := [2, 0]) (nL := 2) (Bk := bkJ15_append) (as := [a0, a1]) (h := h) (Q := fun v h2 => v = fvJ15_append [a0, a1] h ∧ h2 = fhJ15_append [a0, a1] h) (wR.step (have Ec0 : fvJ15_append [a0, a1] h = a0 := rfl; (match hg with | ⟨g1, g2⟩ => ⟨g1, g2, (show wR bkJ15_append 6 [a0, a1] [] (fhJ14_append_rJ15 [a0, a1] h) _ from wR.step ⟨rfl, Ec0.symm, rfl⟩)⟩)))
    exact hF
  | [], hg => hg.elim
  | [_], hg => hg.elim
  | _ :: _ :: _ :: _, hg => hg.elim
def yJ8_min : MethodName := ⟨RJ8, "min", "(II)I"⟩
abbrev cJ8_min : ByteArray := prog_56_method_69_code
noncomputable def bJ8_min_0 : tX := mx_load 0 (mx_load 1 (mi_gt (mx_go 9) (mx_go 5)))
noncomputable def bJ8_min_5 : tX := mx_load 0 (mx_go 10)
noncomputable def bJ8_min_9 : tX := mx_load 1 (mx_go 10)
noncomputable def bJ8_min_10 : tX := mx_ret
noncomputable def tbJ8_min : List tTe := [(0, ([(0, 0), (1, 0)], []), bJ8_min_0), (5, ([(0, 0), (1, 0)], []), bJ8_min_5), (9, ([(0, 0), (1, 0)], []), bJ8_min_9), (10, ([(0, 0), (1, 0)], [0]), bJ8_min_10)]
noncomputable def bkJ8_min : Nat → tX := tBk tbJ8_min
noncomputable def fJ8_min : tFn := tFN [0, 0] 2 bkJ8_min
noncomputable def eJ8_min (D : tD) (b0 : Nat) : tM := (cJ8_min, 2, RJ8, tTy tbJ8_min, D, b0, 0, 0, some (.int), false, [])
noncomputable def opsJ8_min : List tOpE := []
theorem okJ8_min (D : tD) (b0 : Nat) : ∀ q ∈ opsJ8_min, OpOK (eJ8_min D b0) q := (fun q hq => by cases hq)
theorem ckJ8_min_0 : ckS (tBy cJ8_min) opsJ8_min 2 [(1, 0, 0), (1, 1, 0)] 0 [(0, 0), (1, 0)] [] = some (2, [(0, 0), (1, 0)], [0, 0]) := by decide +kernel
theorem hsJ8_min_0 (D : tD) (b0 : Nat) : tSx (eJ8_min D b0) 0 [(0, 0), (1, 0)] [] bJ8_min_0 := ckS_ok (E := eJ8_min D b0) (T := mi_gt (mx_go 9) (mx_go 5)) (okJ8_min D b0) ckJ8_min_0 (ms_icmp_gt 9 (tDe (c := cJ8_min) (pc := 2) (i := .if_icmp .gt 7) (n := 3) (by decide +kernel)) rfl (ms_at rfl rfl) (ms_at rfl rfl))
theorem ckJ8_min_5 : ckS (tBy cJ8_min) opsJ8_min 2 [(1, 0, 0)] 5 [(0, 0), (1, 0)] [] = some (6, [(0, 0), (1, 0)], [0]) := by decide +kernel
theorem hsJ8_min_5 (D : tD) (b0 : Nat) : tSx (eJ8_min D b0) 5 [(0, 0), (1, 0)] [] bJ8_min_5 := ckS_ok (E := eJ8_min D b0) (T := mx_go 10) (okJ8_min D b0) ckJ8_min_5 (ms_goto 10 (tDe (c := cJ8_min) (pc := 6) (i := .goto 4) (n := 3) (by decide +kernel)) rfl (ms_at rfl rfl))
theorem ckJ8_min_9 : ckS (tBy cJ8_min) opsJ8_min 2 [(1, 1, 0)] 9 [(0, 0), (1, 0)] [] = some (10, [(0, 0), (1, 0)], [0]) := by decide +kernel
theorem hsJ8_min_9 (D : tD) (b0 : Nat) : tSx (eJ8_min D b0) 9 [(0, 0), (1, 0)] [] bJ8_min_9 := ckS_ok (E := eJ8_min D b0) (T := mx_go 10) (okJ8_min D b0) ckJ8_min_9 (ms_at rfl rfl)
theorem hsJ8_min_10 (D : tD) (b0 : Nat) : tSx (eJ8_min D b0) 10 [(0, 0), (1, 0)] [0] bJ8_min_10 := (ms_iret (tDe (c := cJ8_min) (pc := 10) (i := .ireturn) (n := 1) (by decide +kernel)) rfl)
theorem sJ8_min (D : tD) (b0 : Nat) : tMX D b0 yJ8_min (ws_ yJ8_min cJ8_min 2 (some (.int))) (some (.int)) [0, 0] 0 0 fJ8_min :=
  tMX.lim fun n => tMX.of n (te := tTy tbJ8_min) (ini := false) pfJ8_min (fun h => by cases h) (Nat.le_of_ble_eq_true rfl) rfl rfl (tTb (E := eJ8_min D b0) rfl (List.forall_mem_cons.mpr ⟨hsJ8_min_0 D b0, (List.forall_mem_cons.mpr ⟨hsJ8_min_5 D b0, (List.forall_mem_cons.mpr ⟨hsJ8_min_9 D b0, (List.forall_mem_cons.mpr ⟨hsJ8_min_10 D b0, (fun q hq => by cases hq)⟩)⟩)⟩)⟩))
def fgJ8_min : List Int → tH → Prop := fun as h => match as with
  | [a0, a1] => i32 a0 ∧ i32 a1
  | _ => False
def fvJ8_min : List Int → tH → Int := fun as h => match as with
  | [a0, a1] => (if a1 < a0 then a1 else a0)
  | _ => 0
def fhJ8_min : List Int → tH → tH := fun as h => h
theorem zJ8_min : tZ fJ8_min fgJ8_min fvJ8_min fhJ8_min := fun as h hg => match as, hg with
  | [a0, a1], hg => by
    obtain ⟨v, h2, hF, rfl, rfl⟩ := wN.of (ks := [0, 0]) (nL := 2) (Bk := bkJ8_min) (as := [a0, a1]) (h := h) (Q := fun v h2 => v = fvJ8_min [a0, a1] h ∧ h2 = fhJ8_min [a0, a1] h) (wR.step (have Ec0 : fvJ8_min [a0, a1] h = (if a1 < a0 then a1 else a0) := rfl; (match hg with | ⟨g1, g2⟩ => ⟨⟨g1, g2⟩, fun (c3 : a1 < a0) => have Ec3 := Ec0.trans (if_pos c3); (show wR bkJ8_min 9 [a0, a1] [] h _ from wR.step (show wR bkJ8_min 10 [a0, a1] [a1] h _ from wR.step ⟨rfl, Ec3.symm, rfl⟩)), fun (c3 : ¬ (a1 < a0)) => have Ec3 := Ec0.trans (if_neg c3); (show wR bkJ8_min 5 [a0, a1] [] h _ from wR.step (show wR bkJ8_min 10 [a0, a1] [a0] h _ from wR.step ⟨rfl, Ec3.symm, rfl⟩))⟩)))
    exact hF
  | [], hg => hg.elim
  | [_], hg => hg.elim
  | _ :: _ :: _ :: _, hg => hg.elim
def yJ9_checkLength : MethodName := ⟨RJ9, "checkLength", "(II)V"⟩
abbrev cJ9_checkLength : ByteArray := prog_71_method_131_code
noncomputable def bJ9_checkLength_0 : tX := mx_load 1 (mx_load 0 (mi_ge (mx_go 37) mx_none))
noncomputable def bJ9_checkLength_37 : tX := mx_retv
noncomputable def tbJ9_checkLength : List tTe := [(0, ([(0, 0), (1, 0)], []), bJ9_checkLength_0), (37, ([(0, 0), (1, 0)], []), bJ9_checkLength_37)]
noncomputable def bkJ9_checkLength : Nat → tX := tBk tbJ9_checkLength
noncomputable def fJ9_checkLength : tFn := tFN [0, 0] 2 bkJ9_checkLength
noncomputable def eJ9_checkLength (D : tD) (b0 : Nat) : tM := (cJ9_checkLength, 2, RJ9, tTy tbJ9_checkLength, D, b0, 0, 0, none, false, [])
noncomputable def opsJ9_checkLength : List tOpE := []
theorem okJ9_checkLength (D : tD) (b0 : Nat) : ∀ q ∈ opsJ9_checkLength, OpOK (eJ9_checkLength D b0) q := (fun q hq => by cases hq)
theorem ckJ9_checkLength_0 : ckS (tBy cJ9_checkLength) opsJ9_checkLength 2 [(1, 1, 0), (1, 0, 0)] 0 [(0, 0), (1, 0)] [] = some (2, [(0, 0), (1, 0)], [0, 0]) := by decide +kernel
theorem hsJ9_checkLength_0 (D : tD) (b0 : Nat) : tSx (eJ9_checkLength D b0) 0 [(0, 0), (1, 0)] [] bJ9_checkLength_0 := ckS_ok (E := eJ9_checkLength D b0) (T := mi_ge (mx_go 37) mx_none) (okJ9_checkLength D b0) ckJ9_checkLength_0 (ms_icmp_ge 37 (tDe (c := cJ9_checkLength) (pc := 2) (i := .if_icmp .ge 35) (n := 3) (by decide +kernel)) rfl (ms_at rfl rfl) ms_none)
theorem hsJ9_checkLength_37 (D : tD) (b0 : Nat) : tSx (eJ9_checkLength D b0) 37 [(0, 0), (1, 0)] [] bJ9_checkLength_37 := (ms_vret (tDe (c := cJ9_checkLength) (pc := 37) (i := .return_) (n := 1) (by decide +kernel)) rfl)
theorem sJ9_checkLength (D : tD) (b0 : Nat) : tMX D b0 yJ9_checkLength (ws_ yJ9_checkLength cJ9_checkLength 2 (none)) (none) [0, 0] 0 0 fJ9_checkLength :=
  tMX.lim fun n => tMX.of n (te := tTy tbJ9_checkLength) (ini := false) pfJ9_checkLength (fun h => by cases h) (Nat.le_of_ble_eq_true rfl) rfl rfl (tTb (E := eJ9_checkLength D b0) rfl (List.forall_mem_cons.mpr ⟨hsJ9_checkLength_0 D b0, (List.forall_mem_cons.mpr ⟨hsJ9_checkLength_37 D b0, (fun q hq => by cases hq)⟩)⟩))
def fgJ9_checkLength : List Int → tH → Prop := fun as h => match as with
  | [a0, a1] => i32 a1 ∧ i32 a0 ∧ (¬ (a0 ≤ a1) → False)
  | _ => False
def fvJ9_checkLength : List Int → tH → Int := fun as h => match as with
  | [a0, a1] => (if a0 ≤ a1 then 0 else 0)
  | _ => 0
def fhJ9_checkLength : List Int → tH → tH := fun as h => h
theorem zJ9_checkLength : tZ fJ9_checkLength fgJ9_checkLength fvJ9_checkLength fhJ9_checkLength := fun as h hg => match as, hg with
  | [a0, a1], hg => by
    obtain ⟨v, h2, hF, rfl, rfl⟩ := wN.of (ks := [0, 0]) (nL := 2) (Bk := bkJ9_checkLength) (as := [a0, a1]) (h := h) (Q := fun v h2 => v = fvJ9_checkLength [a0, a1] h ∧ h2 = fhJ9_checkLength [a0, a1] h) (wR.step (have Ec0 : fvJ9_checkLength [a0, a1] h = (if a0 ≤ a1 then 0 else 0) := rfl; (match hg with | ⟨g1, g2, H4⟩ => ⟨⟨g1, g2⟩, fun (c3 : a0 ≤ a1) => have Ec3 := Ec0.trans (if_pos c3); (show wR bkJ9_checkLength 37 [a0, a1] [] h _ from wR.step ⟨rfl, Ec3.symm, rfl⟩), fun (c3 : ¬ (a0 ≤ a1)) => have Ec3 := Ec0.trans (if_neg c3); (have H5 := (H4 c3); H5)⟩)))
    exact hF
  | [], hg => hg.elim
  | [_], hg => hg.elim
  | _ :: _ :: _ :: _, hg => hg.elim
def yJ9_copyOfRangeByte : MethodName := ⟨RJ9, "copyOfRangeByte", "([BII)[B"⟩
abbrev cJ9_copyOfRangeByte : ByteArray := prog_71_method_133_code
noncomputable def bJ9_copyOfRangeByte_0 : tX := mx_load 1 (mx_load 2 (mx_callZv fJ9_checkLength zJ9_checkLength 2 (mx_go 5)))
noncomputable def bJ9_copyOfRangeByte_5 : tX := mx_load 2 (mx_load 1 (mx_bin f_sub (mx_store 3 (mx_load 3 (mx_newa 3 (mx_store 4 (mx_load 0 (mx_load 1 (mx_load 4 (mx_push 0 (mx_load 0 (mx_alen 3 (mx_load 1 (mx_bin f_sub (mx_load 3 (mx_callZ fJ8_min zJ8_min 2 (mx_copy (fun _ v => -128 ≤ v ∧ v ≤ 127) 3 (mx_go 30))))))))))))))))))
noncomputable def bJ9_copyOfRangeByte_30 : tX := mx_load 4 (mx_ret)
noncomputable def tbJ9_copyOfRangeByte : List tTe := [(0, ([(0, 2), (1, 0), (2, 0)], []), bJ9_copyOfRangeByte_0), (5, ([(0, 2), (1, 0), (2, 0)], []), bJ9_copyOfRangeByte_5), (30, ([(0, 2), (1, 0), (2, 0), (3, 0), (4, 2)], []), bJ9_copyOfRangeByte_30)]
noncomputable def bkJ9_copyOfRangeByte : Nat → tX := tBk tbJ9_copyOfRangeByte
noncomputable def fJ9_copyOfRangeByte : tFn := tFN [2, 0, 0] 5 bkJ9_copyOfRangeByte
noncomputable def eJ9_copyOfRangeByte (D : tD) (b0 : Nat) : tM := (cJ9_copyOfRangeByte, 5, RJ9, tTy tbJ9_copyOfRangeByte, D, b0, 1, 59, some (.array (.byte)), false, [])
noncomputable def opsJ9_copyOfRangeByte : List tOpE := [(.invokestatic 343, 3, [0, 0], [], mx_callZv fJ9_checkLength zJ9_checkLength 2), (.isub, 1, [0, 0], [0], mx_bin f_sub), (.newarray .byte, 2, [0], [2], mx_newa 3), (.iconst 0, 1, [], [0], mx_push 0), (.arraylength, 1, [2], [0], mx_alen 3), (.invokestatic 304, 3, [0, 0], [0], mx_callZ fJ8_min zJ8_min 2), (.invokestatic 150, 3, [0, 0, 2, 0, 2], [], mx_copy (fun _ v => -128 ≤ v ∧ v ≤ 127) 3)]
theorem okJ9_copyOfRangeByte (D : tD) (b0 : Nat) : ∀ q ∈ opsJ9_copyOfRangeByte, OpOK (eJ9_copyOfRangeByte D b0) q := (List.forall_mem_cons.mpr ⟨(fun pc lt ts K hd hst hK => ms_callSZv (hz := zJ9_checkLength) [0, 0] ts (sJ9_checkLength D b0) q2399 q2400 q223 q2401 hcJ9 pd__pII_qV (Nat.le_of_ble_eq_true rfl) (Nat.le_trans (Nat.add_le_add_right (Nat.add_le_add_right hst _) _) (Nat.le_of_ble_eq_true rfl)) rfl rfl rfl rfl hd hK), (List.forall_mem_cons.mpr ⟨opk_isub, (List.forall_mem_cons.mpr ⟨(fun pc lt ts K hd hst hK => ms_newa (at_ := .byte) 3 (Nat.le_of_ble_eq_true rfl) rfl rfl (Nat.le_of_ble_eq_true rfl) (fun C h => by cases h) q317 hd hK), (List.forall_mem_cons.mpr ⟨opk_iconst 0, (List.forall_mem_cons.mpr ⟨opk_alen 3 (Nat.le_of_ble_eq_true rfl) rfl, (List.forall_mem_cons.mpr ⟨(fun pc lt ts K hd hst hK => ms_callSZ (hz := zJ8_min) [0, 0] ts (sJ8_min D b0) q1334 q1335 q222 q1336 hcJ8 pd__pII_qI (Nat.le_of_ble_eq_true rfl) (Nat.le_trans (Nat.add_le_add_right (Nat.add_le_add_right hst _) _) (Nat.le_of_ble_eq_true rfl)) rfl rfl rfl rfl hd hK), (List.forall_mem_cons.mpr ⟨(fun pc lt ts K hd hst hK => ms_copy 3 (Nat.le_of_ble_eq_true rfl) rfl cpB_ok q1337 q1339 q1338 q224 (Nat.le_of_ble_eq_true rfl) (Nat.le_trans (Nat.add_le_add_right hst _) (Nat.le_of_ble_eq_true rfl)) hd hK), (fun q hq => by cases hq)⟩)⟩)⟩)⟩)⟩)⟩)⟩)
theorem ckJ9_copyOfRangeByte_0 : ckS (tBy cJ9_copyOfRangeByte) opsJ9_copyOfRangeByte 5 [(1, 1, 0), (1, 2, 0), (0, 0, 0)] 0 [(0, 2), (1, 0), (2, 0)] [] = some (5, [(0, 2), (1, 0), (2, 0)], []) := by decide +kernel
theorem hsJ9_copyOfRangeByte_0 (D : tD) (b0 : Nat) : tSx (eJ9_copyOfRangeByte D b0) 0 [(0, 2), (1, 0), (2, 0)] [] bJ9_copyOfRangeByte_0 := ckS_ok (E := eJ9_copyOfRangeByte D b0) (T := mx_go 5) (okJ9_copyOfRangeByte D b0) ckJ9_copyOfRangeByte_0 (ms_at rfl rfl)
theorem ckJ9_copyOfRangeByte_5 : ckS (tBy cJ9_copyOfRangeByte) opsJ9_copyOfRangeByte 5 [(1, 2, 0), (1, 1, 0), (0, 1, 0), (2, 3, 0), (1, 3, 0), (0, 2, 0), (2, 4, 2), (1, 0, 2), (1, 1, 0), (1, 4, 2), (0, 3, 0), (1, 0, 2), (0, 4, 0), (1, 1, 0), (0, 1, 0), (1, 3, 0), (0, 5, 0), (0, 6, 0)] 5 [(0, 2), (1, 0), (2, 0)] [] = some (30, [(4, 2), (3, 0), (0, 2), (1, 0), (2, 0)], []) := by decide +kernel
theorem hsJ9_copyOfRangeByte_5 (D : tD) (b0 : Nat) : tSx (eJ9_copyOfRangeByte D b0) 5 [(0, 2), (1, 0), (2, 0)] [] bJ9_copyOfRangeByte_5 := ckS_ok (E := eJ9_copyOfRangeByte D b0) (T := mx_go 30) (okJ9_copyOfRangeByte D b0) ckJ9_copyOfRangeByte_5 (ms_at rfl rfl)
theorem ckJ9_copyOfRangeByte_30 : ckS (tBy cJ9_copyOfRangeByte) opsJ9_copyOfRangeByte 5 [(1, 4, 2)] 30 [(0, 2), (1, 0), (2, 0), (3, 0), (4, 2)] [] = some (32, [(0, 2), (1, 0), (2, 0), (3, 0), (4, 2)], [2]) := by decide +kernel
theorem hsJ9_copyOfRangeByte_30 (D : tD) (b0 : Nat) : tSx (eJ9_copyOfRangeByte D b0) 30 [(0, 2), (1, 0), (2, 0), (3, 0), (4, 2)] [] bJ9_copyOfRangeByte_30 := ckS_ok (E := eJ9_copyOfRangeByte D b0) (T := mx_ret) (okJ9_copyOfRangeByte D b0) ckJ9_copyOfRangeByte_30 (ms_aret _ (tDe (c := cJ9_copyOfRangeByte) (pc := 32) (i := .areturn) (n := 1) (by decide +kernel)) rfl (Or.inr ⟨_, rfl⟩))
theorem sJ9_copyOfRangeByte (D : tD) (b0 : Nat) : tMX D b0 yJ9_copyOfRangeByte (ws_ yJ9_copyOfRangeByte cJ9_copyOfRangeByte 5 (some (.array (.byte)))) (some (.array (.byte))) [2, 0, 0] 1 59 fJ9_copyOfRangeByte :=
  tMX.lim fun n => tMX.of n (te := tTy tbJ9_copyOfRangeByte) (ini := false) pfJ9_copyOfRangeByte (fun h => by cases h) (Nat.le_of_ble_eq_true rfl) rfl rfl (tTb (E := eJ9_copyOfRangeByte D b0) rfl (List.forall_mem_cons.mpr ⟨hsJ9_copyOfRangeByte_0 D b0, (List.forall_mem_cons.mpr ⟨hsJ9_copyOfRangeByte_5 D b0, (List.forall_mem_cons.mpr ⟨hsJ9_copyOfRangeByte_30 D b0, (fun q hq => by cases hq)⟩)⟩)⟩))
def fgJ9_copyOfRangeByte : List Int → tH → Prop := fun as h => match as with
  | [a0, a1, a2] => fgJ9_checkLength [a1, a2] h ∧ 0 ≤ (a2 - a1) ∧ (a2 - a1) ≤ 67108864 ∧ (tNew h 1003 (a2 - a1) (a2 - a1)).2.2.1 a0 = 1003 ∧ fgJ8_min [(((tNew h 1003 (a2 - a1) (a2 - a1)).2.1 a0) - a1), (a2 - a1)] (tNew h 1003 (a2 - a1) (a2 - a1)) ∧ cpG (fun _ v => -128 ≤ v ∧ v ≤ 127) 3 (tNew h 1003 (a2 - a1) (a2 - a1)) a0 a1 h.2.2.2.1 0 (fvJ8_min [(((tNew h 1003 (a2 - a1) (a2 - a1)).2.1 a0) - a1), (a2 - a1)] (tNew h 1003 (a2 - a1) (a2 - a1)))
  | _ => False
def fvJ9_copyOfRangeByte : List Int → tH → Int := fun as h => match as with
  | [a0, a1, a2] => h.2.2.2.1
  | _ => 0
def fhJ9_copyOfRangeByte : List Int → tH → tH := fun as h => match as with
  | [a0, a1, a2] => (tCp (tNew h 1003 (a2 - a1) (a2 - a1)) a0 a1 h.2.2.2.1 0 (fvJ8_min [(((tNew h 1003 (a2 - a1) (a2 - a1)).2.1 a0) - a1), (a2 - a1)] (tNew h 1003 (a2 - a1) (a2 - a1))))
  | _ => h
theorem zJ9_copyOfRangeByte : tZ fJ9_copyOfRangeByte fgJ9_copyOfRangeByte fvJ9_copyOfRangeByte fhJ9_copyOfRangeByte := fun as h hg => match as, hg with
  | [a0, a1, a2], hg => by
    obtain ⟨v, h2, hF, rfl, rfl⟩ := wN.of (ks := [2, 0, 0]) (nL := 5) (Bk := bkJ9_copyOfRangeByte) (as := [a0, a1, a2]) (h := h) (Q := fun v h2 => v = fvJ9_copyOfRangeByte [a0, a1, a2] h ∧ h2 = fhJ9_copyOfRangeByte [a0, a1, a2] h) (wR.step (have Ec0 : fvJ9_copyOfRangeByte [a0, a1, a2] h = h.2.2.2.1 := rfl; (match hg with | ⟨g1, g2, g3, g4, g5, g6⟩ => ⟨g1, (show wR bkJ9_copyOfRangeByte 5 [a0, a1, a2, 0, 0] [] h _ from wR.step ⟨⟨g2, g3⟩, ⟨g4, ⟨g5, ⟨g6, (show wR bkJ9_copyOfRangeByte 30 [a0, a1, a2, (a2 - a1), h.2.2.2.1] [] (tCp (tNew h 1003 (a2 - a1) (a2 - a1)) a0 a1 h.2.2.2.1 0 (fvJ8_min [(((tNew h 1003 (a2 - a1) (a2 - a1)).2.1 a0) - a1), (a2 - a1)] (tNew h 1003 (a2 - a1) (a2 - a1)))) _ from wR.step ⟨rfl, Ec0.symm, rfl⟩)⟩⟩⟩⟩)⟩)))
    exact hF
  | [], hg => hg.elim
  | [_], hg => hg.elim
  | [_, _], hg => hg.elim
  | _ :: _ :: _ :: _ :: _, hg => hg.elim
def yJ9_copyOfRange : MethodName := ⟨RJ9, "copyOfRange", "([BII)[B"⟩
abbrev cJ9_copyOfRange : ByteArray := prog_71_method_132_code
noncomputable def bJ9_copyOfRange_0 : tX := mx_load 1 (mx_push 0 (mi_ne (mx_go 10) (mx_go 4)))
noncomputable def bJ9_copyOfRange_4 : tX := mx_load 2 (mx_load 0 (mx_alen 3 (mi_eq (mx_go 17) (mx_go 10))))
noncomputable def bJ9_copyOfRange_10 : tX := mx_load 0 (mx_load 1 (mx_load 2 (mx_callZ fJ9_copyOfRangeByte zJ9_copyOfRangeByte 3 (mx_ret))))
noncomputable def bJ9_copyOfRange_17 : tX := mx_load 0 (mx_clone (mx_cast 1003 (mx_ret)))
noncomputable def tbJ9_copyOfRange : List tTe := [(0, ([(0, 2), (1, 0), (2, 0)], []), bJ9_copyOfRange_0), (4, ([(0, 2), (1, 0), (2, 0)], []), bJ9_copyOfRange_4), (10, ([(0, 2), (1, 0), (2, 0)], []), bJ9_copyOfRange_10), (17, ([(0, 2), (1, 0), (2, 0)], []), bJ9_copyOfRange_17)]
noncomputable def bkJ9_copyOfRange : Nat → tX := tBk tbJ9_copyOfRange
noncomputable def fJ9_copyOfRange : tFn := tFN [2, 0, 0] 3 bkJ9_copyOfRange
noncomputable def eJ9_copyOfRange (D : tD) (b0 : Nat) : tM := (cJ9_copyOfRange, 3, RJ9, tTy tbJ9_copyOfRange, D, b0, 2, 107, some (.array (.byte)), false, [])
noncomputable def opsJ9_copyOfRange : List tOpE := [(.arraylength, 1, [2], [0], mx_alen 3), (.invokestatic 339, 3, [0, 0, 2], [2], mx_callZ fJ9_copyOfRangeByte zJ9_copyOfRangeByte 3), (.invokevirtual 310, 3, [2], [2], mx_clone), (.checkcast 311, 3, [2], [2], mx_cast 1003)]
theorem okJ9_copyOfRange (D : tD) (b0 : Nat) : ∀ q ∈ opsJ9_copyOfRange, OpOK (eJ9_copyOfRange D b0) q := (List.forall_mem_cons.mpr ⟨opk_alen 3 (Nat.le_of_ble_eq_true rfl) rfl, (List.forall_mem_cons.mpr ⟨(fun pc lt ts K hd hst hK => ms_callSZ (hz := zJ9_copyOfRangeByte) [2, 0, 0] ts (sJ9_copyOfRangeByte D b0) q2396 q2397 q223 q2398 hcJ9 pd__p_aBII_q_aB (Nat.le_of_ble_eq_true rfl) (Nat.le_trans (Nat.add_le_add_right (Nat.add_le_add_right hst _) _) (Nat.le_of_ble_eq_true rfl)) rfl rfl rfl rfl hd hK), (List.forall_mem_cons.mpr ⟨(fun pc lt ts K hd hst hK => ms_clone q2315 q2316 q2317 q2318 q2319 q2320 (Nat.le_of_ble_eq_true rfl) (Nat.le_trans (Nat.add_le_add_right hst _) (Nat.le_of_ble_eq_true rfl)) hd hK), (List.forall_mem_cons.mpr ⟨(fun pc lt ts K hd hst hK => ms_cast 1003 (Or.inr ⟨3, _, (Nat.le_of_ble_eq_true rfl), rfl, rfl⟩) t_castB q2321 hd hK), (fun q hq => by cases hq)⟩)⟩)⟩)⟩)
theorem ckJ9_copyOfRange_0 : ckS (tBy cJ9_copyOfRange) opsJ9_copyOfRange 3 [(1, 1, 0)] 0 [(0, 2), (1, 0), (2, 0)] [] = some (1, [(0, 2), (1, 0), (2, 0)], [0]) := by decide +kernel
theorem hsJ9_copyOfRange_0 (D : tD) (b0 : Nat) : tSx (eJ9_copyOfRange D b0) 0 [(0, 2), (1, 0), (2, 0)] [] bJ9_copyOfRange_0 := ckS_ok (E := eJ9_copyOfRange D b0) (T := mx_push 0 (mi_ne (mx_go 10) (mx_go 4))) (okJ9_copyOfRange D b0) ckJ9_copyOfRange_0 (ms_if_ne 10 (tDe (c := cJ9_copyOfRange) (pc := 1) (i := .ifCond .ne 9) (n := 3) (by decide +kernel)) rfl (ms_at rfl rfl) (ms_at rfl rfl))
theorem ckJ9_copyOfRange_4 : ckS (tBy cJ9_copyOfRange) opsJ9_copyOfRange 3 [(1, 2, 0), (1, 0, 2), (0, 0, 0)] 4 [(0, 2), (1, 0), (2, 0)] [] = some (7, [(0, 2), (1, 0), (2, 0)], [0, 0]) := by decide +kernel
theorem hsJ9_copyOfRange_4 (D : tD) (b0 : Nat) : tSx (eJ9_copyOfRange D b0) 4 [(0, 2), (1, 0), (2, 0)] [] bJ9_copyOfRange_4 := ckS_ok (E := eJ9_copyOfRange D b0) (T := mi_eq (mx_go 17) (mx_go 10)) (okJ9_copyOfRange D b0) ckJ9_copyOfRange_4 (ms_icmp_eq 17 (tDe (c := cJ9_copyOfRange) (pc := 7) (i := .if_icmp .eq 10) (n := 3) (by decide +kernel)) rfl (ms_at rfl rfl) (ms_at rfl rfl))
theorem ckJ9_copyOfRange_10 : ckS (tBy cJ9_copyOfRange) opsJ9_copyOfRange 3 [(1, 0, 2), (1, 1, 0), (1, 2, 0), (0, 1, 0)] 10 [(0, 2), (1, 0), (2, 0)] [] = some (16, [(0, 2), (1, 0), (2, 0)], [2]) := by decide +kernel
theorem hsJ9_copyOfRange_10 (D : tD) (b0 : Nat) : tSx (eJ9_copyOfRange D b0) 10 [(0, 2), (1, 0), (2, 0)] [] bJ9_copyOfRange_10 := ckS_ok (E := eJ9_copyOfRange D b0) (T := mx_ret) (okJ9_copyOfRange D b0) ckJ9_copyOfRange_10 (ms_aret _ (tDe (c := cJ9_copyOfRange) (pc := 16) (i := .areturn) (n := 1) (by decide +kernel)) rfl (Or.inr ⟨_, rfl⟩))
theorem ckJ9_copyOfRange_17 : ckS (tBy cJ9_copyOfRange) opsJ9_copyOfRange 3 [(1, 0, 2), (0, 2, 0), (0, 3, 0)] 17 [(0, 2), (1, 0), (2, 0)] [] = some (24, [(0, 2), (1, 0), (2, 0)], [2]) := by decide +kernel
theorem hsJ9_copyOfRange_17 (D : tD) (b0 : Nat) : tSx (eJ9_copyOfRange D b0) 17 [(0, 2), (1, 0), (2, 0)] [] bJ9_copyOfRange_17 := ckS_ok (E := eJ9_copyOfRange D b0) (T := mx_ret) (okJ9_copyOfRange D b0) ckJ9_copyOfRange_17 (ms_aret _ (tDe (c := cJ9_copyOfRange) (pc := 24) (i := .areturn) (n := 1) (by decide +kernel)) rfl (Or.inr ⟨_, rfl⟩))
theorem sJ9_copyOfRange (D : tD) (b0 : Nat) : tMX D b0 yJ9_copyOfRange (ws_ yJ9_copyOfRange cJ9_copyOfRange 3 (some (.array (.byte)))) (some (.array (.byte))) [2, 0, 0] 2 107 fJ9_copyOfRange :=
  tMX.lim fun n => tMX.of n (te := tTy tbJ9_copyOfRange) (ini := false) pfJ9_copyOfRange (fun h => by cases h) (Nat.le_of_ble_eq_true rfl) rfl rfl (tTb (E := eJ9_copyOfRange D b0) rfl (List.forall_mem_cons.mpr ⟨hsJ9_copyOfRange_0 D b0, (List.forall_mem_cons.mpr ⟨hsJ9_copyOfRange_4 D b0, (List.forall_mem_cons.mpr ⟨hsJ9_copyOfRange_10 D b0, (List.forall_mem_cons.mpr ⟨hsJ9_copyOfRange_17 D b0, (fun q hq => by cases hq)⟩)⟩)⟩)⟩))
def fgJ9_copyOfRange : List Int → tH → Prop := fun as h => match as with
  | [a0, a1, a2] => i32 a1 ∧ (¬ a1 = 0 → fgJ9_copyOfRangeByte [a0, a1, a2] h) ∧ (¬ (¬ a1 = 0) → h.2.2.1 a0 = 1003 ∧ i32 a2 ∧ i32 (h.2.1 a0) ∧ (a2 = (h.2.1 a0) → (h.2.2.1 a0 = 1003 ∧ 0 ≤ h.2.1 a0 ∧ ∀ i, 0 ≤ i → i < h.2.1 a0 → (-128 ≤ h.1.2 a0 i ∧ h.1.2 a0 i ≤ 127)) ∧ (tCl h a0).2.2.1 h.2.2.2.1 = 1003) ∧ (¬ (a2 = (h.2.1 a0)) → fgJ9_copyOfRangeByte [a0, a1, a2] h))
  | _ => False
def fvJ9_copyOfRange : List Int → tH → Int := fun as h => match as with
  | [a0, a1, a2] => (if ¬ a1 = 0 then (fvJ9_copyOfRangeByte [a0, a1, a2] h) else (if a2 = (h.2.1 a0) then h.2.2.2.1 else (fvJ9_copyOfRangeByte [a0, a1, a2] h)))
  | _ => 0
def fhJ9_copyOfRange : List Int → tH → tH := fun as h => match as with
  | [a0, a1, a2] => (if ¬ a1 = 0 then (fhJ9_copyOfRangeByte [a0, a1, a2] h) else (if a2 = (h.2.1 a0) then (tCl h a0) else (fhJ9_copyOfRangeByte [a0, a1, a2] h)))
  | _ => h
theorem zJ9_copyOfRange : tZ fJ9_copyOfRange fgJ9_copyOfRange fvJ9_copyOfRange fhJ9_copyOfRange := fun as h hg => match as, hg with
  | [a0, a1, a2], hg => by
    obtain ⟨v, h2, hF, rfl, rfl⟩ := wN.of (ks := [2, 0, 0]) (nL := 3) (Bk := bkJ9_copyOfRange) (as := [a0, a1, a2]) (h := h) (Q := fun v h2 => v = fvJ9_copyOfRange [a0, a1, a2] h ∧ h2 = fhJ9_copyOfRange [a0, a1, a2] h) (wR.step (have Ec0 : fvJ9_copyOfRange [a0, a1, a2] h = (if ¬ a1 = 0 then (fvJ9_copyOfRangeByte [a0, a1, a2] h) else (if a2 = (h.2.1 a0) then h.2.2.2.1 else (fvJ9_copyOfRangeByte [a0, a1, a2] h))) := rfl; have Fc0 : fhJ9_copyOfRange [a0, a1, a2] h = (if ¬ a1 = 0 then (fhJ9_copyOfRangeByte [a0, a1, a2] h) else (if a2 = (h.2.1 a0) then (tCl h a0) else (fhJ9_copyOfRangeByte [a0, a1, a2] h))) := rfl; (match hg with | ⟨g1, H11, H12⟩ => ⟨⟨g1, l32_0⟩, fun (c2 : ¬ a1 = 0) => have Ec2 := Ec0.trans (if_pos c2); have Fc2 := Fc0.trans (if_pos c2); (have g3 := (H11 c2); (show wR bkJ9_copyOfRange 10 [a0, a1, a2] [] h _ from wR.step ⟨g3, ⟨rfl, Ec2.symm, Fc2.symm⟩⟩)), fun (c2 : ¬ (¬ a1 = 0)) => have Ec2 := Ec0.trans (if_neg c2); have Fc2 := Fc0.trans (if_neg c2); (match (H12 c2) with | ⟨g4, g5, g6, H13, H14⟩ => (show wR bkJ9_copyOfRange 4 [a0, a1, a2] [] h _ from wR.step ⟨g4, ⟨⟨g5, g6⟩, fun (c7 : a2 = (h.2.1 a0)) => have Ec7 := Ec2.trans (if_pos c7); have Fc7 := Fc2.trans (if_pos c7); (match (H13 c7) with | ⟨g8, g9⟩ => (show wR bkJ9_copyOfRange 17 [a0, a1, a2] [] h _ from wR.step ⟨g8, ⟨g9, ⟨rfl, Ec7.symm, Fc7.symm⟩⟩⟩)), fun (c7 : ¬ (a2 = (h.2.1 a0))) => have Ec7 := Ec2.trans (if_neg c7); have Fc7 := Fc2.trans (if_neg c7); (have g10 := (H14 c7); (show wR bkJ9_copyOfRange 10 [a0, a1, a2] [] h _ from wR.step ⟨g10, ⟨rfl, Ec7.symm, Fc7.symm⟩⟩))⟩⟩))⟩)))
    exact hF
  | [], hg => hg.elim
  | [_], hg => hg.elim
  | [_, _], hg => hg.elim
  | _ :: _ :: _ :: _ :: _, hg => hg.elim
def yJ16_init_2 : MethodName := ⟨RJ16, "<init>", "(Ljava/lang/AbstractStringBuilder;Ljava/lang/Void;)V"⟩
abbrev cJ16_init_2 : ByteArray := prog_59_method_150_code
noncomputable def bJ16_init_2_0 : tX := mx_load 0 (mx_obj (mx_go 4))
noncomputable def bJ16_init_2_4 : tX := mx_load 1 (mv_callZ 45 fJ14_getValue_rJ15 zJ14_getValue_rJ15 1 (mx_store 3 (mx_go 9)))
noncomputable def bJ16_init_2_9 : tX := mx_load 1 (mv_callZ 45 fJ15_length zJ15_length 1 (mx_store 4 (mx_go 15)))
noncomputable def bJ16_init_2_15 : tX := mx_load 1 (mv_callZ 45 fJ14_isLatin1_rJ15 zJ14_isLatin1_rJ15 1 (mx_push 0 (mi_eq mx_none (mx_go 22))))
noncomputable def bJ16_init_2_22 : tX := mx_load 0 (mx_push 0 (mx_putfB 46 1 (fun v h => decide_eq_true h) (mx_load 0 (mx_load 3 (mx_push 0 (mx_load 4 (mx_callZ fJ9_copyOfRange zJ9_copyOfRange 3 (mx_putf 46 0 (fun _ => rfl) (mx_go 38)))))))))
noncomputable def bJ16_init_2_38 : tX := mx_go 97
noncomputable def bJ16_init_2_97 : tX := mx_retv
noncomputable def tbJ16_init_2 : List tTe := [(0, ([(0, 2), (1, 2), (2, 2)], []), bJ16_init_2_0), (4, ([(0, 2), (1, 2), (2, 2)], []), bJ16_init_2_4), (9, ([(0, 2), (1, 2), (2, 2), (3, 2)], []), bJ16_init_2_9), (15, ([(0, 2), (1, 2), (2, 2), (3, 2), (4, 0)], []), bJ16_init_2_15), (22, ([(0, 2), (1, 2), (2, 2), (3, 2), (4, 0)], []), bJ16_init_2_22), (38, ([(0, 2), (1, 2), (2, 2), (3, 2), (4, 0)], []), bJ16_init_2_38), (97, ([(0, 2), (1, 2), (2, 2), (3, 2), (4, 0)], []), bJ16_init_2_97)]
noncomputable def bkJ16_init_2 : Nat → tX := tBk tbJ16_init_2
noncomputable def fJ16_init_2 : tFn := tFN [2, 2, 2] 5 bkJ16_init_2
noncomputable def eJ16_init_2 (D : tD) (b0 : Nat) : tM := (cJ16_init_2, 5, RJ16, tTy tbJ16_init_2, D, b0, 3, 153, none, true, [])
noncomputable def opsJ16_init_2 : List tOpE := [(.invokespecial 1, 3, [2], [], mx_obj), (.invokevirtual 552, 3, [2], [2], mv_callZ 45 fJ14_getValue_rJ15 zJ14_getValue_rJ15 1), (.invokevirtual 549, 3, [2], [0], mv_callZ 45 fJ15_length zJ15_length 1), (.invokevirtual 1047, 3, [2], [0], mv_callZ 45 fJ14_isLatin1_rJ15 zJ14_isLatin1_rJ15 1), (.iconst 0, 1, [], [0], mx_push 0), (.putfield 15, 3, [0, 2], [], mx_putfB 46 1 (fun v h => decide_eq_true h)), (.invokestatic 54, 3, [0, 0, 2], [2], mx_callZ fJ9_copyOfRange zJ9_copyOfRange 3), (.putfield 9, 3, [2, 2], [], mx_putf 46 0 (fun _ => rfl))]
theorem okJ16_init_2 (D : tD) (b0 : Nat) : ∀ q ∈ opsJ16_init_2, OpOK (eJ16_init_2 D b0) q := (List.forall_mem_cons.mpr ⟨(fun pc lt ts K hd hst hK => ms_obj q2385 q248 q249 (Nat.le_of_ble_eq_true rfl) (Nat.le_trans (Nat.add_le_add_right hst _) (Nat.le_of_ble_eq_true rfl)) hd hK), (List.forall_mem_cons.mpr ⟨(fun pc lt ts K hd hst hK => ms_callVZ (hz := zJ14_getValue_rJ15) 45 [] ts (sJ14_getValue_rJ15 D b0) (Nat.le_of_ble_eq_true rfl) rfl q2386 q2387 q2389 q236 q2390 hcJ14 pd__p_q_aB (Nat.le_of_ble_eq_true rfl) (Nat.le_trans (Nat.add_le_add_right (Nat.add_le_add_right hst _) _) (Nat.le_of_ble_eq_true rfl)) rfl rfl rfl rfl hd hK), (List.forall_mem_cons.mpr ⟨(fun pc lt ts K hd hst hK => ms_callVOZ (hz := zJ15_length) 45 [] ts (sJ15_length D b0) (Nat.le_of_ble_eq_true rfl) rfl q2391 q4396 q2293 q2294 hcJ14 pd__p_qI q2289 q4401 q237 q2291 hcJ15 pd__p_qI (Nat.le_of_ble_eq_true rfl) (Nat.le_trans (Nat.add_le_add_right (Nat.add_le_add_right hst _) _) (Nat.le_of_ble_eq_true rfl)) rfl rfl rfl rfl hd hK), (List.forall_mem_cons.mpr ⟨(fun pc lt ts K hd hst hK => ms_callVZ (hz := zJ14_isLatin1_rJ15) 45 [] ts (sJ14_isLatin1_rJ15 D b0) (Nat.le_of_ble_eq_true rfl) rfl q2392 q2323 q2325 q236 q2326 hcJ14 pd__p_qZ (Nat.le_of_ble_eq_true rfl) (Nat.le_trans (Nat.add_le_add_right (Nat.add_le_add_right hst _) _) (Nat.le_of_ble_eq_true rfl)) rfl rfl rfl rfl hd hK), (List.forall_mem_cons.mpr ⟨opk_iconst 0, (List.forall_mem_cons.mpr ⟨(fun pc lt ts K hd hst hK => ms_putfB (hok := fun v h => decide_eq_true h) 46 1 0 hd rfl (Nat.le_of_ble_eq_true rfl) (Nat.le_of_ble_eq_true rfl) q2417 (Or.inl rfl) (Or.inr ⟨rfl, rfl, rfl⟩) rfl hK), (List.forall_mem_cons.mpr ⟨(fun pc lt ts K hd hst hK => ms_callSZ (hz := zJ9_copyOfRange) [2, 0, 0] ts (sJ9_copyOfRange D b0) q2393 q2394 q223 q2395 hcJ9 pd__p_aBII_q_aB (Nat.le_of_ble_eq_true rfl) (Nat.le_trans (Nat.add_le_add_right (Nat.add_le_add_right hst _) _) (Nat.le_of_ble_eq_true rfl)) rfl rfl rfl rfl hd hK), (List.forall_mem_cons.mpr ⟨opk_putf 46 0 2 rfl (Nat.le_of_ble_eq_true rfl) (Nat.le_of_ble_eq_true rfl) q2416 (Or.inl rfl) (Or.inr ⟨rfl, rfl, rfl⟩) rfl, (fun q hq => by cases hq)⟩)⟩)⟩)⟩)⟩)⟩)⟩)⟩)
theorem ckJ16_init_2_0 : ckS (tBy cJ16_init_2) opsJ16_init_2 5 [(1, 0, 2), (0, 0, 0)] 0 [(0, 2), (1, 2), (2, 2)] [] = some (4, [(0, 2), (1, 2), (2, 2)], []) := by decide +kernel
theorem hsJ16_init_2_0 (D : tD) (b0 : Nat) : tSx (eJ16_init_2 D b0) 0 [(0, 2), (1, 2), (2, 2)] [] bJ16_init_2_0 := ckS_ok (E := eJ16_init_2 D b0) (T := mx_go 4) (okJ16_init_2 D b0) ckJ16_init_2_0 (ms_at rfl rfl)
theorem ckJ16_init_2_4 : ckS (tBy cJ16_init_2) opsJ16_init_2 5 [(1, 1, 2), (0, 1, 0), (2, 3, 2)] 4 [(0, 2), (1, 2), (2, 2)] [] = some (9, [(3, 2), (0, 2), (1, 2), (2, 2)], []) := by decide +kernel
theorem hsJ16_init_2_4 (D : tD) (b0 : Nat) : tSx (eJ16_init_2 D b0) 4 [(0, 2), (1, 2), (2, 2)] [] bJ16_init_2_4 := ckS_ok (E := eJ16_init_2 D b0) (T := mx_go 9) (okJ16_init_2 D b0) ckJ16_init_2_4 (ms_at rfl rfl)
theorem ckJ16_init_2_9 : ckS (tBy cJ16_init_2) opsJ16_init_2 5 [(1, 1, 2), (0, 2, 0), (2, 4, 0)] 9 [(0, 2), (1, 2), (2, 2), (3, 2)] [] = some (15, [(4, 0), (0, 2), (1, 2), (2, 2), (3, 2)], []) := by decide +kernel
theorem hsJ16_init_2_9 (D : tD) (b0 : Nat) : tSx (eJ16_init_2 D b0) 9 [(0, 2), (1, 2), (2, 2), (3, 2)] [] bJ16_init_2_9 := ckS_ok (E := eJ16_init_2 D b0) (T := mx_go 15) (okJ16_init_2 D b0) ckJ16_init_2_9 (ms_at rfl rfl)
theorem ckJ16_init_2_15 : ckS (tBy cJ16_init_2) opsJ16_init_2 5 [(1, 1, 2), (0, 3, 0)] 15 [(0, 2), (1, 2), (2, 2), (3, 2), (4, 0)] [] = some (19, [(0, 2), (1, 2), (2, 2), (3, 2), (4, 0)], [0]) := by decide +kernel
theorem hsJ16_init_2_15 (D : tD) (b0 : Nat) : tSx (eJ16_init_2 D b0) 15 [(0, 2), (1, 2), (2, 2), (3, 2), (4, 0)] [] bJ16_init_2_15 := ckS_ok (E := eJ16_init_2 D b0) (T := mx_push 0 (mi_eq mx_none (mx_go 22))) (okJ16_init_2 D b0) ckJ16_init_2_15 (ms_if_eq 41 (tDe (c := cJ16_init_2) (pc := 19) (i := .ifCond .eq 22) (n := 3) (by decide +kernel)) rfl ms_none (ms_at rfl rfl))
theorem ckJ16_init_2_22 : ckS (tBy cJ16_init_2) opsJ16_init_2 5 [(1, 0, 2), (0, 4, 0), (0, 5, 0), (1, 0, 2), (1, 3, 2), (0, 4, 0), (1, 4, 0), (0, 6, 0), (0, 7, 0)] 22 [(0, 2), (1, 2), (2, 2), (3, 2), (4, 0)] [] = some (38, [(0, 2), (1, 2), (2, 2), (3, 2), (4, 0)], []) := by decide +kernel
theorem hsJ16_init_2_22 (D : tD) (b0 : Nat) : tSx (eJ16_init_2 D b0) 22 [(0, 2), (1, 2), (2, 2), (3, 2), (4, 0)] [] bJ16_init_2_22 := ckS_ok (E := eJ16_init_2 D b0) (T := mx_go 38) (okJ16_init_2 D b0) ckJ16_init_2_22 (ms_at rfl rfl)
theorem hsJ16_init_2_38 (D : tD) (b0 : Nat) : tSx (eJ16_init_2 D b0) 38 [(0, 2), (1, 2), (2, 2), (3, 2), (4, 0)] [] bJ16_init_2_38 := (ms_goto 97 (tDe (c := cJ16_init_2) (pc := 38) (i := .goto 59) (n := 3) (by decide +kernel)) rfl (ms_at rfl rfl))
theorem hsJ16_init_2_97 (D : tD) (b0 : Nat) : tSx (eJ16_init_2 D b0) 97 [(0, 2), (1, 2), (2, 2), (3, 2), (4, 0)] [] bJ16_init_2_97 := (ms_vret (tDe (c := cJ16_init_2) (pc := 97) (i := .return_) (n := 1) (by decide +kernel)) rfl)
theorem sJ16_init_2 (D : tD) (b0 : Nat) : tMX D b0 yJ16_init_2 (ws_ yJ16_init_2 cJ16_init_2 5 (none)) (none) [2, 2, 2] 3 153 fJ16_init_2 :=
  tMX.lim fun n => tMX.of n (te := tTy tbJ16_init_2) (ini := true) pfJ16_init_2 (fun h => by rfl) (Nat.le_of_ble_eq_true rfl) rfl rfl (tTb (E := eJ16_init_2 D b0) rfl (List.forall_mem_cons.mpr ⟨hsJ16_init_2_0 D b0, (List.forall_mem_cons.mpr ⟨hsJ16_init_2_4 D b0, (List.forall_mem_cons.mpr ⟨hsJ16_init_2_9 D b0, (List.forall_mem_cons.mpr ⟨hsJ16_init_2_15 D b0, (List.forall_mem_cons.mpr ⟨hsJ16_init_2_22 D b0, (List.forall_mem_cons.mpr ⟨hsJ16_init_2_38 D b0, (List.forall_mem_cons.mpr ⟨hsJ16_init_2_97 D b0, (fun q hq => by cases hq)⟩)⟩)⟩)⟩)⟩)⟩)⟩))
def fgJ16_init_2 : List Int → tH → Prop := fun as h => match as with
  | [a0, a1, a2] => h.2.2.1 a0 < 1000 ∧ h.2.2.1 a1 = 45 ∧ fgJ14_getValue_rJ15 [a1] h ∧ fgJ15_length [a1] h ∧ fgJ14_isLatin1_rJ15 [a1] h ∧ i32 (fvJ14_isLatin1_rJ15 [a1] h) ∧ ((fvJ14_isLatin1_rJ15 [a1] h) = 0 → False) ∧ (¬ ((fvJ14_isLatin1_rJ15 [a1] h) = 0) → h.2.2.1 a0 = 46 ∧ fgJ9_copyOfRange [(fvJ14_getValue_rJ15 [a1] h), 0, (fvJ15_length [a1] h)] (tPut h a0 1 0) ∧ (fhJ9_copyOfRange [(fvJ14_getValue_rJ15 [a1] h), 0, (fvJ15_length [a1] h)] (tPut h a0 1 0)).2.2.1 a0 = 46)
  | _ => False
def fvJ16_init_2 : List Int → tH → Int := fun as h => match as with
  | [a0, a1, a2] => (if (fvJ14_isLatin1_rJ15 [a1] h) = 0 then 0 else 0)
  | _ => 0
def fhJ16_init_2 : List Int → tH → tH := fun as h => match as with
  | [a0, a1, a2] => (tPut (fhJ9_copyOfRange [(fvJ14_getValue_rJ15 [a1] h), 0, (fvJ15_length [a1] h)] (tPut h a0 1 0)) a0 0 (fvJ9_copyOfRange [(fvJ14_getValue_rJ15 [a1] h), 0, (fvJ15_length [a1] h)] (tPut h a0 1 0)))
  | _ => h
theorem zJ16_init_2 : tZ fJ16_init_2 fgJ16_init_2 fvJ16_init_2 fhJ16_init_2 := fun as h hg => match as, hg with
  | [a0, a1, a2], hg => by
    obtain ⟨v, h2, hF, rfl, rfl⟩ := wN.of (ks := [2, 2, 2]) (nL := 5) (Bk := bkJ16_init_2) (as := [a0, a1, a2]) (h := h) (Q := fun v h2 => v = fvJ16_init_2 [a0, a1, a2] h ∧ h2 = fhJ16_init_2 [a0, a1, a2] h) (wR.step (have Ec0 : fvJ16_init_2 [a0, a1, a2] h = (if (fvJ14_isLatin1_rJ15 [a1] h) = 0 then 0 else 0) := rfl; (match hg with | ⟨g1, g2, g3, g4, g5, g6, H11, H12⟩ => ⟨g1, (show wR bkJ16_init_2 4 [a0, a1, a2, 0, 0] [] h _ from wR.step ⟨g2, g3, (show wR bkJ16_init_2 9 [a0, a1, a2, (fvJ14_getValue_rJ15 [a1] h), 0] [] h _ from wR.step ⟨g2, g4, (show wR bkJ16_init_2 15 [a0, a1, a2, (fvJ14_getValue_rJ15 [a1] h), (fvJ15_length [a1] h)] [] h _ from wR.step ⟨g2, g5, ⟨⟨g6, l32_0⟩, fun (c7 : (fvJ14_isLatin1_rJ15 [a1] h) = 0) => have Ec7 := Ec0.trans (if_pos c7); (have H13 := (H11 c7); H13), fun (c7 : ¬ ((fvJ14_isLatin1_rJ15 [a1] h) = 0)) => have Ec7 := Ec0.trans (if_neg c7); (match (H12 c7) with | ⟨g8, g9, g10⟩ => (show wR bkJ16_init_2 22 [a0, a1, a2, (fvJ14_getValue_rJ15 [a1] h), (fvJ15_length [a1] h)] [] h _ from wR.step ⟨⟨g8, ⟨by decide, by decide⟩⟩, ⟨g9, ⟨g10, (show wR bkJ16_init_2 38 [a0, a1, a2, (fvJ14_getValue_rJ15 [a1] h), (fvJ15_length [a1] h)] [] (tPut (fhJ9_copyOfRange [(fvJ14_getValue_rJ15 [a1] h), 0, (fvJ15_length [a1] h)] (tPut h a0 1 0)) a0 0 (fvJ9_copyOfRange [(fvJ14_getValue_rJ15 [a1] h), 0, (fvJ15_length [a1] h)] (tPut h a0 1 0))) _ from wR.step (show wR bkJ16_init_2 97 [a0, a1, a2, (fvJ14_getValue_rJ15 [a1] h), (fvJ15_length [a1] h)] [] (tPut (fhJ9_copyOfRange [(fvJ14_getValue_rJ15 [a1] h), 0, (fvJ15_length [a1] h)] (tPut h a0 1 0)) a0 0 (fvJ9_copyOfRange [(fvJ14_getValue_rJ15 [a1] h), 0, (fvJ15_length [a1] h)] (tPut h a0 1 0))) _ from wR.step ⟨rfl, Ec7.symm, rfl⟩))⟩⟩⟩))⟩⟩)⟩)⟩)⟩)))
    exact hF
  | [], hg => hg.elim
  | [_], hg => hg.elim
  | [_, _], hg => hg.elim
  | _ :: _ :: _ :: _ :: _, hg => hg.elim
def yJ16_init : MethodName := ⟨RJ16, "<init>", "(Ljava/lang/StringBuilder;)V"⟩
abbrev cJ16_init : ByteArray := prog_59_method_53_code
noncomputable def bJ16_init_0 : tX := mx_load 0 (mx_load 1 (mx_push 0 (mv_callZv 46 fJ16_init_2 zJ16_init_2 3 (mx_go 6))))
noncomputable def bJ16_init_6 : tX := mx_retv
noncomputable def tbJ16_init : List tTe := [(0, ([(0, 2), (1, 2)], []), bJ16_init_0), (6, ([(0, 2), (1, 2)], []), bJ16_init_6)]
noncomputable def bkJ16_init : Nat → tX := tBk tbJ16_init
noncomputable def fJ16_init : tFn := tFN [2, 2] 2 bkJ16_init
noncomputable def eJ16_init (D : tD) (b0 : Nat) : tM := (cJ16_init, 2, RJ16, tTy tbJ16_init, D, b0, 4, 201, none, true, [])
noncomputable def opsJ16_init : List tOpE := [(.aconst_null, 1, [], [2], mx_push 0), (.invokespecial 489, 3, [2, 2, 2], [], mv_callZv 46 fJ16_init_2 zJ16_init_2 3)]
theorem okJ16_init (D : tD) (b0 : Nat) : ∀ q ∈ opsJ16_init, OpOK (eJ16_init D b0) q := (List.forall_mem_cons.mpr ⟨opk_null, (List.forall_mem_cons.mpr ⟨(fun pc lt ts K hd hst hK => ms_callIZv (hz := zJ16_init_2) 46 [2, 2] ts (sJ16_init_2 D b0) (Nat.le_of_ble_eq_true rfl) rfl rfl q2382 q2383 q238 q2384 hcJ16 pd__pLjava_slang_sAbstractStringBuilder_cLjava_slang_sVoid_c_qV (Nat.le_of_ble_eq_true rfl) (Nat.le_trans (Nat.add_le_add_right (Nat.add_le_add_right hst _) _) (Nat.le_of_ble_eq_true rfl)) rfl rfl rfl hd hK), (fun q hq => by cases hq)⟩)⟩)
theorem ckJ16_init_0 : ckS (tBy cJ16_init) opsJ16_init 2 [(1, 0, 2), (1, 1, 2), (0, 0, 0), (0, 1, 0)] 0 [(0, 2), (1, 2)] [] = some (6, [(0, 2), (1, 2)], []) := by decide +kernel
theorem hsJ16_init_0 (D : tD) (b0 : Nat) : tSx (eJ16_init D b0) 0 [(0, 2), (1, 2)] [] bJ16_init_0 := ckS_ok (E := eJ16_init D b0) (T := mx_go 6) (okJ16_init D b0) ckJ16_init_0 (ms_at rfl rfl)
theorem hsJ16_init_6 (D : tD) (b0 : Nat) : tSx (eJ16_init D b0) 6 [(0, 2), (1, 2)] [] bJ16_init_6 := (ms_vret (tDe (c := cJ16_init) (pc := 6) (i := .return_) (n := 1) (by decide +kernel)) rfl)
theorem sJ16_init (D : tD) (b0 : Nat) : tMX D b0 yJ16_init (ws_ yJ16_init cJ16_init 2 (none)) (none) [2, 2] 4 201 fJ16_init :=
  tMX.lim fun n => tMX.of n (te := tTy tbJ16_init) (ini := true) pfJ16_init (fun h => by rfl) (Nat.le_of_ble_eq_true rfl) rfl rfl (tTb (E := eJ16_init D b0) rfl (List.forall_mem_cons.mpr ⟨hsJ16_init_0 D b0, (List.forall_mem_cons.mpr ⟨hsJ16_init_6 D b0, (fun q hq => by cases hq)⟩)⟩))
def fgJ16_init : List Int → tH → Prop := fun as h => match as with
  | [a0, a1] => h.2.2.1 a0 = 46 ∧ fgJ16_init_2 [a0, a1, 0] h
  | _ => False
def fvJ16_init : List Int → tH → Int := fun as h => match as with
  | [a0, a1] => 0
  | _ => 0
def fhJ16_init : List Int → tH → tH := fun as h => match as with
  | [a0, a1] => (fhJ16_init_2 [a0, a1, 0] h)
  | _ => h
theorem zJ16_init : tZ fJ16_init fgJ16_init fvJ16_init fhJ16_init := fun as h hg => match as, hg with
  | [a0, a1], hg => by
    obtain ⟨v, h2, hF, rfl, rfl⟩ := wN.of (ks := [2, 2]) (nL := 2) (Bk := bkJ16_init) (as := [a0, a1]) (h := h) (Q := fun v h2 => v = fvJ16_init [a0, a1] h ∧ h2 = fhJ16_init [a0, a1] h) (wR.step (have Ec0 : fvJ16_init [a0, a1] h = 0 := rfl; (match hg with | ⟨g1, g2⟩ => ⟨g1, g2, (show wR bkJ16_init 6 [a0, a1] [] (fhJ16_init_2 [a0, a1, 0] h) _ from wR.step ⟨rfl, Ec0.symm, rfl⟩)⟩)))
    exact hF
  | [], hg => hg.elim
  | [_], hg => hg.elim
  | _ :: _ :: _ :: _, hg => hg.elim
def yJ15_toString : MethodName := ⟨RJ15, "toString", "()Ljava/lang/String;"⟩
abbrev cJ15_toString : ByteArray := prog_60_method_42_code
noncomputable def bJ15_toString_0 : tX := mx_new 46 ((4 : Nat) : Int) (mx_dup (mx_load 0 (mv_callZv 46 fJ16_init zJ16_init 2 (mx_ret))))
noncomputable def tbJ15_toString : List tTe := [(0, ([(0, 2)], []), bJ15_toString_0)]
noncomputable def bkJ15_toString : Nat → tX := tBk tbJ15_toString
noncomputable def fJ15_toString : tFn := tFN [2] 1 bkJ15_toString
noncomputable def eJ15_toString (D : tD) (b0 : Nat) : tM := (cJ15_toString, 1, RJ15, tTy tbJ15_toString, D, b0, 5, 246, some (.object "java/lang/String"), false, [])
noncomputable def opsJ15_toString : List tOpE := [(.new 18, 3, [], [2], mx_new 46 ((4 : Nat) : Int)), (.dup, 1, [2], [2, 2], mx_dup), (.invokespecial 137, 3, [2, 2], [], mv_callZv 46 fJ16_init zJ16_init 2)]
theorem okJ15_toString (D : tD) (b0 : Nat) : ∀ q ∈ opsJ15_toString, OpOK (eJ15_toString D b0) q := (List.forall_mem_cons.mpr ⟨(fun pc lt ts K hd hst hK => ms_new 46 hd rfl (Nat.le_of_ble_eq_true rfl) q2377 q2378 q238 rfl hK), (List.forall_mem_cons.mpr ⟨opk_dup2_, (List.forall_mem_cons.mpr ⟨(fun pc lt ts K hd hst hK => ms_callIZv (hz := zJ16_init) 46 [2] ts (sJ16_init D b0) (Nat.le_of_ble_eq_true rfl) rfl rfl q2379 q2380 q238 q2381 hcJ16 pd__pLjava_slang_sStringBuilder_c_qV (Nat.le_of_ble_eq_true rfl) (Nat.le_trans (Nat.add_le_add_right (Nat.add_le_add_right hst _) _) (Nat.le_of_ble_eq_true rfl)) rfl rfl rfl hd hK), (fun q hq => by cases hq)⟩)⟩)⟩)
theorem ckJ15_toString_0 : ckS (tBy cJ15_toString) opsJ15_toString 1 [(0, 0, 0), (0, 1, 0), (1, 0, 2), (0, 2, 0)] 0 [(0, 2)] [] = some (8, [(0, 2)], [2]) := by decide +kernel
theorem hsJ15_toString_0 (D : tD) (b0 : Nat) : tSx (eJ15_toString D b0) 0 [(0, 2)] [] bJ15_toString_0 := ckS_ok (E := eJ15_toString D b0) (T := mx_ret) (okJ15_toString D b0) ckJ15_toString_0 (ms_aret _ (tDe (c := cJ15_toString) (pc := 8) (i := .areturn) (n := 1) (by decide +kernel)) rfl (Or.inl ⟨_, rfl⟩))
theorem sJ15_toString (D : tD) (b0 : Nat) : tMX D b0 yJ15_toString (ws_ yJ15_toString cJ15_toString 1 (some (.object "java/lang/String"))) (some (.object "java/lang/String")) [2] 5 246 fJ15_toString :=
  tMX.lim fun n => tMX.of n (te := tTy tbJ15_toString) (ini := false) pfJ15_toString (fun h => by cases h) (Nat.le_of_ble_eq_true rfl) rfl rfl (tTb (E := eJ15_toString D b0) rfl (List.forall_mem_cons.mpr ⟨hsJ15_toString_0 D b0, (fun q hq => by cases hq)⟩))
def fgJ15_toString : List Int → tH → Prop := fun as h => match as with
  | [a0] => (tNew h 46 0 4).2.2.1 h.2.2.2.1 = 46 ∧ fgJ16_init [h.2.2.2.1, a0] (tNew h 46 0 4)
  | _ => False
def fvJ15_toString : List Int → tH → Int := fun as h => match as with
  | [a0] => h.2.2.2.1
  | _ => 0
def fhJ15_toString : List Int → tH → tH := fun as h => match as with
  | [a0] => (fhJ16_init [h.2.2.2.1, a0] (tNew h 46 0 4))
  | _ => h
theorem zJ15_toString : tZ fJ15_toString fgJ15_toString fvJ15_toString fhJ15_toString := fun as h hg => match as, hg with
  | [a0], hg => by
    obtain ⟨v, h2, hF, rfl, rfl⟩ := wN.of (ks := [2]) (nL := 1) (Bk := bkJ15_toString) (as := [a0]) (h := h) (Q := fun v h2 => v = fvJ15_toString [a0] h ∧ h2 = fhJ15_toString [a0] h) (wR.step (have Ec0 : fvJ15_toString [a0] h = h.2.2.2.1 := rfl; (match hg with | ⟨g1, g2⟩ => ⟨g1, g2, ⟨rfl, Ec0.symm, rfl⟩⟩)))
    exact hF
  | [], hg => hg.elim
  | _ :: _ :: _, hg => hg.elim
def yJ16_checkIndex : MethodName := ⟨RJ16, "checkIndex", "(II)V"⟩
abbrev cJ16_checkIndex : ByteArray := prog_59_method_155_code
noncomputable def bJ16_checkIndex_0 : tX := mx_load 0 (mx_load 1 (mx_gets 5 (mx_callZ fJ11_checkIndex zJ11_checkIndex 3 (mx_pop (mx_go 9)))))
noncomputable def bJ16_checkIndex_9 : tX := mx_retv
noncomputable def tbJ16_checkIndex : List tTe := [(0, ([(0, 0), (1, 0)], []), bJ16_checkIndex_0), (9, ([(0, 0), (1, 0)], []), bJ16_checkIndex_9)]
noncomputable def bkJ16_checkIndex : Nat → tX := tBk tbJ16_checkIndex
noncomputable def fJ16_checkIndex : tFn := tFN [0, 0] 2 bkJ16_checkIndex
noncomputable def eJ16_checkIndex (D : tD) (b0 : Nat) : tM := (cJ16_checkIndex, 2, RJ16, tTy tbJ16_checkIndex, D, b0, 1, 46, none, false, [])
noncomputable def opsJ16_checkIndex : List tOpE := [(.getstatic 1053, 3, [], [2], mx_gets 5), (.invokestatic 1059, 3, [2, 0, 0], [0], mx_callZ fJ11_checkIndex zJ11_checkIndex 3), (.pop, 1, [0], [], mx_pop)]
theorem okJ16_checkIndex (D : tD) (b0 : Nat) : ∀ q ∈ opsJ16_checkIndex, OpOK (eJ16_checkIndex D b0) q := (List.forall_mem_cons.mpr ⟨(fun pc lt ts K hd hst hK => ms_gets 5 (List.Mem.tail _ (List.Mem.tail _ (List.Mem.tail _ (List.Mem.tail _ (List.Mem.head _))))) q2349 (Or.inl rfl) hd hK), (List.forall_mem_cons.mpr ⟨(fun pc lt ts K hd hst hK => ms_callSZ (hz := zJ11_checkIndex) [0, 0, 2] ts (sJ11_checkIndex D b0) q2372 q1353 q226 q1354 hcJ11 pd__pIILjava_sutil_sfunction_sBiFunction_c_qI (Nat.le_of_ble_eq_true rfl) (Nat.le_trans (Nat.add_le_add_right (Nat.add_le_add_right hst _) _) (Nat.le_of_ble_eq_true rfl)) rfl rfl rfl rfl hd hK), (List.forall_mem_cons.mpr ⟨opk_pop0, (fun q hq => by cases hq)⟩)⟩)⟩)
theorem ckJ16_checkIndex_0 : ckS (tBy cJ16_checkIndex) opsJ16_checkIndex 2 [(1, 0, 0), (1, 1, 0), (0, 0, 0), (0, 1, 0), (0, 2, 0)] 0 [(0, 0), (1, 0)] [] = some (9, [(0, 0), (1, 0)], []) := by decide +kernel
theorem hsJ16_checkIndex_0 (D : tD) (b0 : Nat) : tSx (eJ16_checkIndex D b0) 0 [(0, 0), (1, 0)] [] bJ16_checkIndex_0 := ckS_ok (E := eJ16_checkIndex D b0) (T := mx_go 9) (okJ16_checkIndex D b0) ckJ16_checkIndex_0 (ms_at rfl rfl)
theorem hsJ16_checkIndex_9 (D : tD) (b0 : Nat) : tSx (eJ16_checkIndex D b0) 9 [(0, 0), (1, 0)] [] bJ16_checkIndex_9 := (ms_vret (tDe (c := cJ16_checkIndex) (pc := 9) (i := .return_) (n := 1) (by decide +kernel)) rfl)
theorem sJ16_checkIndex (D : tD) (b0 : Nat) : tMX D b0 yJ16_checkIndex (ws_ yJ16_checkIndex cJ16_checkIndex 2 (none)) (none) [0, 0] 1 46 fJ16_checkIndex :=
  tMX.lim fun n => tMX.of n (te := tTy tbJ16_checkIndex) (ini := false) pfJ16_checkIndex (fun h => by cases h) (Nat.le_of_ble_eq_true rfl) rfl rfl (tTb (E := eJ16_checkIndex D b0) rfl (List.forall_mem_cons.mpr ⟨hsJ16_checkIndex_0 D b0, (List.forall_mem_cons.mpr ⟨hsJ16_checkIndex_9 D b0, (fun q hq => by cases hq)⟩)⟩))
def fgJ16_checkIndex : List Int → tH → Prop := fun as h => match as with
  | [a0, a1] => fgJ11_checkIndex [a0, a1, (h.1.1 0 5)] h
  | _ => False
def fvJ16_checkIndex : List Int → tH → Int := fun as h => match as with
  | [a0, a1] => 0
  | _ => 0
def fhJ16_checkIndex : List Int → tH → tH := fun as h => h
theorem zJ16_checkIndex : tZ fJ16_checkIndex fgJ16_checkIndex fvJ16_checkIndex fhJ16_checkIndex := fun as h hg => match as, hg with
  | [a0, a1], hg => by
    obtain ⟨v, h2, hF, rfl, rfl⟩ := wN.of (ks := [0, 0]) (nL := 2) (Bk := bkJ16_checkIndex) (as := [a0, a1]) (h := h) (Q := fun v h2 => v = fvJ16_checkIndex [a0, a1] h ∧ h2 = fhJ16_checkIndex [a0, a1] h) (wR.step (have Ec0 : fvJ16_checkIndex [a0, a1] h = 0 := rfl; (have g1 := hg; ⟨g1, (show wR bkJ16_checkIndex 9 [a0, a1] [] h _ from wR.step ⟨rfl, Ec0.symm, rfl⟩)⟩)))
    exact hF
  | [], hg => hg.elim
  | [_], hg => hg.elim
  | _ :: _ :: _ :: _, hg => hg.elim
def yJ16_coder : MethodName := ⟨RJ16, "coder", "()B"⟩
abbrev cJ16_coder : ByteArray := prog_59_method_152_code
noncomputable def bJ16_coder_0 : tX := mx_push 1 (mx_push 0 (mi_eq mx_none (mx_go 6)))
noncomputable def bJ16_coder_6 : tX := mx_load 0 (mx_getf 46 1 (mx_go 14))
noncomputable def bJ16_coder_14 : tX := mx_retG (-128) 127
noncomputable def tbJ16_coder : List tTe := [(0, ([(0, 2)], []), bJ16_coder_0), (6, ([(0, 2)], []), bJ16_coder_6), (14, ([(0, 2)], [0]), bJ16_coder_14)]
noncomputable def bkJ16_coder : Nat → tX := tBk tbJ16_coder
noncomputable def fJ16_coder : tFn := tFN [2] 1 bkJ16_coder
noncomputable def eJ16_coder (D : tD) (b0 : Nat) : tM := (cJ16_coder, 1, RJ16, tTy tbJ16_coder, D, b0, 0, 0, some (.byte), false, [])
noncomputable def opsJ16_coder : List tOpE := [(.getstatic 38, 3, [], [0], mx_push 1), (.getfield 15, 3, [2], [0], mx_getf 46 1)]
theorem okJ16_coder (D : tD) (b0 : Nat) : ∀ q ∈ opsJ16_coder, OpOK (eJ16_coder D b0) q := (List.forall_mem_cons.mpr ⟨(fun pc lt ts K hd hst hK => ms_getsC q2402 (Or.inl rfl) hd hK), (List.forall_mem_cons.mpr ⟨opk_getf 46 1 0 rfl (Nat.le_of_ble_eq_true rfl) (Nat.le_of_ble_eq_true rfl) q2417 (Or.inl rfl) rfl, (fun q hq => by cases hq)⟩)⟩)
theorem ckJ16_coder_0 : ckS (tBy cJ16_coder) opsJ16_coder 1 [(0, 0, 0)] 0 [(0, 2)] [] = some (3, [(0, 2)], [0]) := by decide +kernel
theorem hsJ16_coder_0 (D : tD) (b0 : Nat) : tSx (eJ16_coder D b0) 0 [(0, 2)] [] bJ16_coder_0 := ckS_ok (E := eJ16_coder D b0) (T := mx_push 0 (mi_eq mx_none (mx_go 6))) (okJ16_coder D b0) ckJ16_coder_0 (ms_if_eq 13 (tDe (c := cJ16_coder) (pc := 3) (i := .ifCond .eq 10) (n := 3) (by decide +kernel)) rfl ms_none (ms_at rfl rfl))
theorem ckJ16_coder_6 : ckS (tBy cJ16_coder) opsJ16_coder 1 [(1, 0, 2), (0, 1, 0)] 6 [(0, 2)] [] = some (10, [(0, 2)], [0]) := by decide +kernel
theorem hsJ16_coder_6 (D : tD) (b0 : Nat) : tSx (eJ16_coder D b0) 6 [(0, 2)] [] bJ16_coder_6 := ckS_ok (E := eJ16_coder D b0) (T := mx_go 14) (okJ16_coder D b0) ckJ16_coder_6 (ms_goto 14 (tDe (c := cJ16_coder) (pc := 10) (i := .goto 4) (n := 3) (by decide +kernel)) rfl (ms_at rfl rfl))
theorem hsJ16_coder_14 (D : tD) (b0 : Nat) : tSx (eJ16_coder D b0) 14 [(0, 2)] [0] bJ16_coder_14 := (ms_retG (-128) 127 (tDe (c := cJ16_coder) (pc := 14) (i := .ireturn) (n := 1) (by decide +kernel)) rfl rfl nar_b)
theorem sJ16_coder (D : tD) (b0 : Nat) : tMX D b0 yJ16_coder (ws_ yJ16_coder cJ16_coder 1 (some (.byte))) (some (.byte)) [2] 0 0 fJ16_coder :=
  tMX.lim fun n => tMX.of n (te := tTy tbJ16_coder) (ini := false) pfJ16_coder (fun h => by cases h) (Nat.le_of_ble_eq_true rfl) rfl rfl (tTb (E := eJ16_coder D b0) rfl (List.forall_mem_cons.mpr ⟨hsJ16_coder_0 D b0, (List.forall_mem_cons.mpr ⟨hsJ16_coder_6 D b0, (List.forall_mem_cons.mpr ⟨hsJ16_coder_14 D b0, (fun q hq => by cases hq)⟩)⟩)⟩))
def fgJ16_coder : List Int → tH → Prop := fun as h => match as with
  | [a0] => h.2.2.1 a0 = 46 ∧ (-128) ≤ (h.1.1 a0 1) ∧ (h.1.1 a0 1) ≤ 127
  | _ => False
def fvJ16_coder : List Int → tH → Int := fun as h => match as with
  | [a0] => (h.1.1 a0 1)
  | _ => 0
def fhJ16_coder : List Int → tH → tH := fun as h => h
theorem zJ16_coder : tZ fJ16_coder fgJ16_coder fvJ16_coder fhJ16_coder := fun as h hg => match as, hg with
  | [a0], hg => by
    obtain ⟨v, h2, hF, rfl, rfl⟩ := wN.of (ks := [2]) (nL := 1) (Bk := bkJ16_coder) (as := [a0]) (h := h) (Q := fun v h2 => v = fvJ16_coder [a0] h ∧ h2 = fhJ16_coder [a0] h) (wR.step (have Ec0 : fvJ16_coder [a0] h = (h.1.1 a0 1) := rfl; (have H5 := hg; ⟨⟨l32_1, l32_0⟩, fun (z : 1 = 0) => absurd z (by decide), fun _ => (match H5 with | ⟨g2, g3, g4⟩ => (show wR bkJ16_coder 6 [a0] [] h _ from wR.step ⟨g2, (show wR bkJ16_coder 14 [a0] [(h.1.1 a0 1)] h _ from wR.step ⟨⟨g3, g4⟩, ⟨rfl, Ec0.symm, rfl⟩⟩)⟩))⟩)))
    exact hF
  | [], hg => hg.elim
  | _ :: _ :: _, hg => hg.elim
def yJ16_length : MethodName := ⟨RJ16, "length", "()I"⟩
abbrev cJ16_length : ByteArray := prog_59_method_54_code
noncomputable def bJ16_length_0 : tX := mx_load 0 (mx_getf 46 0 (mx_alen 3 (mx_load 0 (mv_callZ 46 fJ16_coder zJ16_coder 1 (mx_bin f_shr (mx_ret))))))
noncomputable def tbJ16_length : List tTe := [(0, ([(0, 2)], []), bJ16_length_0)]
noncomputable def bkJ16_length : Nat → tX := tBk tbJ16_length
noncomputable def fJ16_length : tFn := tFN [2] 1 bkJ16_length
noncomputable def eJ16_length (D : tD) (b0 : Nat) : tM := (cJ16_length, 1, RJ16, tTy tbJ16_length, D, b0, 1, 44, some (.int), false, [])
noncomputable def opsJ16_length : List tOpE := [(.getfield 9, 3, [2], [2], mx_getf 46 0), (.arraylength, 1, [2], [0], mx_alen 3), (.invokevirtual 335, 3, [2], [0], mv_callZ 46 fJ16_coder zJ16_coder 1), (.ishr, 1, [0, 0], [0], mx_bin f_shr)]
theorem okJ16_length (D : tD) (b0 : Nat) : ∀ q ∈ opsJ16_length, OpOK (eJ16_length D b0) q := (List.forall_mem_cons.mpr ⟨opk_getf 46 0 2 rfl (Nat.le_of_ble_eq_true rfl) (Nat.le_of_ble_eq_true rfl) q2416 (Or.inl rfl) rfl, (List.forall_mem_cons.mpr ⟨opk_alen 3 (Nat.le_of_ble_eq_true rfl) rfl, (List.forall_mem_cons.mpr ⟨(fun pc lt ts K hd hst hK => ms_callVZ (hz := zJ16_coder) 46 [] ts (sJ16_coder D b0) (Nat.le_of_ble_eq_true rfl) rfl q2433 q2434 q2435 q238 q2436 hcJ16 pd__p_qB (Nat.le_of_ble_eq_true rfl) (Nat.le_trans (Nat.add_le_add_right (Nat.add_le_add_right hst _) _) (Nat.le_of_ble_eq_true rfl)) rfl rfl rfl rfl hd hK), (List.forall_mem_cons.mpr ⟨opk_ishr, (fun q hq => by cases hq)⟩)⟩)⟩)⟩)
theorem ckJ16_length_0 : ckS (tBy cJ16_length) opsJ16_length 1 [(1, 0, 2), (0, 0, 0), (0, 1, 0), (1, 0, 2), (0, 2, 0), (0, 3, 0)] 0 [(0, 2)] [] = some (10, [(0, 2)], [0]) := by decide +kernel
theorem hsJ16_length_0 (D : tD) (b0 : Nat) : tSx (eJ16_length D b0) 0 [(0, 2)] [] bJ16_length_0 := ckS_ok (E := eJ16_length D b0) (T := mx_ret) (okJ16_length D b0) ckJ16_length_0 (ms_iret (tDe (c := cJ16_length) (pc := 10) (i := .ireturn) (n := 1) (by decide +kernel)) rfl)
theorem sJ16_length (D : tD) (b0 : Nat) : tMX D b0 yJ16_length (ws_ yJ16_length cJ16_length 1 (some (.int))) (some (.int)) [2] 1 44 fJ16_length :=
  tMX.lim fun n => tMX.of n (te := tTy tbJ16_length) (ini := false) pfJ16_length (fun h => by cases h) (Nat.le_of_ble_eq_true rfl) rfl rfl (tTb (E := eJ16_length D b0) rfl (List.forall_mem_cons.mpr ⟨hsJ16_length_0 D b0, (fun q hq => by cases hq)⟩))
def fgJ16_length : List Int → tH → Prop := fun as h => match as with
  | [a0] => h.2.2.1 a0 = 46 ∧ h.2.2.1 (h.1.1 a0 0) = 1003 ∧ fgJ16_coder [a0] h
  | _ => False
def fvJ16_length : List Int → tH → Int := fun as h => match as with
  | [a0] => (f_shr (h.2.1 (h.1.1 a0 0)) (fvJ16_coder [a0] h))
  | _ => 0
def fhJ16_length : List Int → tH → tH := fun as h => h
theorem zJ16_length : tZ fJ16_length fgJ16_length fvJ16_length fhJ16_length := fun as h hg => match as, hg with
  | [a0], hg => by
    obtain ⟨v, h2, hF, rfl, rfl⟩ := wN.of (ks := [2]) (nL := 1) (Bk := bkJ16_length) (as := [a0]) (h := h) (Q := fun v h2 => v = fvJ16_length [a0] h ∧ h2 = fhJ16_length [a0] h) (wR.step (have Ec0 : fvJ16_length [a0] h = (f_shr (h.2.1 (h.1.1 a0 0)) (fvJ16_coder [a0] h)) := rfl; (match hg with | ⟨g1, g2, g3⟩ => ⟨g1, ⟨g2, ⟨g1, g3, ⟨rfl, Ec0.symm, rfl⟩⟩⟩⟩)))
    exact hF
  | [], hg => hg.elim
  | _ :: _ :: _, hg => hg.elim
noncomputable def bJ16_coder_rS_0 : tX := mx_push 1 (mx_push 0 (mi_eq mx_none (mx_go 6)))
noncomputable def bJ16_coder_rS_6 : tX := mx_load 0 (mx_getf 2046 1 (mx_go 14))
noncomputable def bJ16_coder_rS_14 : tX := mx_retG (-128) 127
noncomputable def tbJ16_coder_rS : List tTe := [(0, ([(0, 2)], []), bJ16_coder_rS_0), (6, ([(0, 2)], []), bJ16_coder_rS_6), (14, ([(0, 2)], [0]), bJ16_coder_rS_14)]
noncomputable def bkJ16_coder_rS : Nat → tX := tBk tbJ16_coder_rS
noncomputable def fJ16_coder_rS : tFn := tFN [2] 1 bkJ16_coder_rS
noncomputable def eJ16_coder_rS (D : tD) (b0 : Nat) : tM := (cJ16_coder, 1, RJ16, tTy tbJ16_coder_rS, D, b0, 0, 0, some (.byte), false, [])
noncomputable def opsJ16_coder_rS : List tOpE := [(.getstatic 38, 3, [], [0], mx_push 1), (.getfield 15, 3, [2], [0], mx_getf 2046 1)]
theorem okJ16_coder_rS (D : tD) (b0 : Nat) : ∀ q ∈ opsJ16_coder_rS, OpOK (eJ16_coder_rS D b0) q := (List.forall_mem_cons.mpr ⟨(fun pc lt ts K hd hst hK => ms_getsC q2402 (Or.inl rfl) hd hK), (List.forall_mem_cons.mpr ⟨opk_getf 2046 1 0 rfl (Nat.le_of_ble_eq_true rfl) (Nat.le_of_ble_eq_true rfl) q2417 (Or.inl rfl) rfl, (fun q hq => by cases hq)⟩)⟩)
theorem ckJ16_coder_rS_0 : ckS (tBy cJ16_coder) opsJ16_coder_rS 1 [(0, 0, 0)] 0 [(0, 2)] [] = some (3, [(0, 2)], [0]) := by decide +kernel
theorem hsJ16_coder_rS_0 (D : tD) (b0 : Nat) : tSx (eJ16_coder_rS D b0) 0 [(0, 2)] [] bJ16_coder_rS_0 := ckS_ok (E := eJ16_coder_rS D b0) (T := mx_push 0 (mi_eq mx_none (mx_go 6))) (okJ16_coder_rS D b0) ckJ16_coder_rS_0 (ms_if_eq 13 (tDe (c := cJ16_coder) (pc := 3) (i := .ifCond .eq 10) (n := 3) (by decide +kernel)) rfl ms_none (ms_at rfl rfl))
theorem ckJ16_coder_rS_6 : ckS (tBy cJ16_coder) opsJ16_coder_rS 1 [(1, 0, 2), (0, 1, 0)] 6 [(0, 2)] [] = some (10, [(0, 2)], [0]) := by decide +kernel
theorem hsJ16_coder_rS_6 (D : tD) (b0 : Nat) : tSx (eJ16_coder_rS D b0) 6 [(0, 2)] [] bJ16_coder_rS_6 := ckS_ok (E := eJ16_coder_rS D b0) (T := mx_go 14) (okJ16_coder_rS D b0) ckJ16_coder_rS_6 (ms_goto 14 (tDe (c := cJ16_coder) (pc := 10) (i := .goto 4) (n := 3) (by decide +kernel)) rfl (ms_at rfl rfl))
theorem hsJ16_coder_rS_14 (D : tD) (b0 : Nat) : tSx (eJ16_coder_rS D b0) 14 [(0, 2)] [0] bJ16_coder_rS_14 := (ms_retG (-128) 127 (tDe (c := cJ16_coder) (pc := 14) (i := .ireturn) (n := 1) (by decide +kernel)) rfl rfl nar_b)
theorem sJ16_coder_rS (D : tD) (b0 : Nat) : tMX D b0 yJ16_coder (ws_ yJ16_coder cJ16_coder 1 (some (.byte))) (some (.byte)) [2] 0 0 fJ16_coder_rS :=
  tMX.lim fun n => tMX.of n (te := tTy tbJ16_coder_rS) (ini := false) pfJ16_coder (fun h => by cases h) (Nat.le_of_ble_eq_true rfl) rfl rfl (tTb (E := eJ16_coder_rS D b0) rfl (List.forall_mem_cons.mpr ⟨hsJ16_coder_rS_0 D b0, (List.forall_mem_cons.mpr ⟨hsJ16_coder_rS_6 D b0, (List.forall_mem_cons.mpr ⟨hsJ16_coder_rS_14 D b0, (fun q hq => by cases hq)⟩)⟩)⟩))
def fgJ16_coder_rS : List Int → tH → Prop := fun as h => match as with
  | [a0] => h.2.2.1 a0 = 2046 ∧ (-128) ≤ (h.1.1 a0 1) ∧ (h.1.1 a0 1) ≤ 127
  | _ => False
def fvJ16_coder_rS : List Int → tH → Int := fun as h => match as with
  | [a0] => (h.1.1 a0 1)
  | _ => 0
def fhJ16_coder_rS : List Int → tH → tH := fun as h => h
theorem zJ16_coder_rS : tZ fJ16_coder_rS fgJ16_coder_rS fvJ16_coder_rS fhJ16_coder_rS := fun as h hg => match as, hg with
  | [a0], hg => by
    obtain ⟨v, h2, hF, rfl, rfl⟩ := wN.of (ks := [2]) (nL := 1) (Bk := bkJ16_coder_rS) (as := [a0]) (h := h) (Q := fun v h2 => v = fvJ16_coder_rS [a0] h ∧ h2 = fhJ16_coder_rS [a0] h) (wR.step (have Ec0 : fvJ16_coder_rS [a0] h = (h.1.1 a0 1) := rfl; (have H5 := hg; ⟨⟨l32_1, l32_0⟩, fun (z : 1 = 0) => absurd z (by decide), fun _ => (match H5 with | ⟨g2, g3, g4⟩ => (show wR bkJ16_coder_rS 6 [a0] [] h _ from wR.step ⟨g2, (show wR bkJ16_coder_rS 14 [a0] [(h.1.1 a0 1)] h _ from wR.step ⟨⟨g3, g4⟩, ⟨rfl, Ec0.symm, rfl⟩⟩)⟩))⟩)))
    exact hF
  | [], hg => hg.elim
  | _ :: _ :: _, hg => hg.elim
noncomputable def bJ16_length_rS_0 : tX := mx_load 0 (mx_getf 2046 0 (mx_alen 1003 (mx_load 0 (mv_callZ 2046 fJ16_coder_rS zJ16_coder_rS 1 (mx_bin f_shr (mx_ret))))))
noncomputable def tbJ16_length_rS : List tTe := [(0, ([(0, 2)], []), bJ16_length_rS_0)]
noncomputable def bkJ16_length_rS : Nat → tX := tBk tbJ16_length_rS
noncomputable def fJ16_length_rS : tFn := tFN [2] 1 bkJ16_length_rS
noncomputable def eJ16_length_rS (D : tD) (b0 : Nat) : tM := (cJ16_length, 1, RJ16, tTy tbJ16_length_rS, D, b0, 1, 44, some (.int), false, [])
noncomputable def opsJ16_length_rS : List tOpE := [(.getfield 9, 3, [2], [2], mx_getf 2046 0), (.arraylength, 1, [2], [0], mx_alen 1003), (.invokevirtual 335, 3, [2], [0], mv_callZ 2046 fJ16_coder_rS zJ16_coder_rS 1), (.ishr, 1, [0, 0], [0], mx_bin f_shr)]
theorem okJ16_length_rS (D : tD) (b0 : Nat) : ∀ q ∈ opsJ16_length_rS, OpOK (eJ16_length_rS D b0) q := (List.forall_mem_cons.mpr ⟨opk_getf 2046 0 2 rfl (Nat.le_of_ble_eq_true rfl) (Nat.le_of_ble_eq_true rfl) q2416 (Or.inl rfl) rfl, (List.forall_mem_cons.mpr ⟨opk_alen 1003 (Nat.le_of_ble_eq_true rfl) rfl, (List.forall_mem_cons.mpr ⟨(fun pc lt ts K hd hst hK => ms_callVZ (hz := zJ16_coder_rS) 2046 [] ts (sJ16_coder_rS D b0) (Nat.le_of_ble_eq_true rfl) rfl q2433 q2434 q2435 q238 q2436 hcJ16 pd__p_qB (Nat.le_of_ble_eq_true rfl) (Nat.le_trans (Nat.add_le_add_right (Nat.add_le_add_right hst _) _) (Nat.le_of_ble_eq_true rfl)) rfl rfl rfl rfl hd hK), (List.forall_mem_cons.mpr ⟨opk_ishr, (fun q hq => by cases hq)⟩)⟩)⟩)⟩)
theorem ckJ16_length_rS_0 : ckS (tBy cJ16_length) opsJ16_length_rS 1 [(1, 0, 2), (0, 0, 0), (0, 1, 0), (1, 0, 2), (0, 2, 0), (0, 3, 0)] 0 [(0, 2)] [] = some (10, [(0, 2)], [0]) := by decide +kernel
theorem hsJ16_length_rS_0 (D : tD) (b0 : Nat) : tSx (eJ16_length_rS D b0) 0 [(0, 2)] [] bJ16_length_rS_0 := ckS_ok (E := eJ16_length_rS D b0) (T := mx_ret) (okJ16_length_rS D b0) ckJ16_length_rS_0 (ms_iret (tDe (c := cJ16_length) (pc := 10) (i := .ireturn) (n := 1) (by decide +kernel)) rfl)
theorem sJ16_length_rS (D : tD) (b0 : Nat) : tMX D b0 yJ16_length (ws_ yJ16_length cJ16_length 1 (some (.int))) (some (.int)) [2] 1 44 fJ16_length_rS :=
  tMX.lim fun n => tMX.of n (te := tTy tbJ16_length_rS) (ini := false) pfJ16_length (fun h => by cases h) (Nat.le_of_ble_eq_true rfl) rfl rfl (tTb (E := eJ16_length_rS D b0) rfl (List.forall_mem_cons.mpr ⟨hsJ16_length_rS_0 D b0, (fun q hq => by cases hq)⟩))
def fgJ16_length_rS : List Int → tH → Prop := fun as h => match as with
  | [a0] => h.2.2.1 a0 = 2046 ∧ h.2.2.1 (h.1.1 a0 0) = 2003 ∧ fgJ16_coder_rS [a0] h
  | _ => False
def fvJ16_length_rS : List Int → tH → Int := fun as h => match as with
  | [a0] => (f_shr (h.2.1 (h.1.1 a0 0)) (fvJ16_coder_rS [a0] h))
  | _ => 0
def fhJ16_length_rS : List Int → tH → tH := fun as h => h
theorem zJ16_length_rS : tZ fJ16_length_rS fgJ16_length_rS fvJ16_length_rS fhJ16_length_rS := fun as h hg => match as, hg with
  | [a0], hg => by
    obtain ⟨v, h2, hF, rfl, rfl⟩ := wN.of (ks := [2]) (nL := 1) (Bk := bkJ16_length_rS) (as := [a0]) (h := h) (Q := fun v h2 => v = fvJ16_length_rS [a0] h ∧ h2 = fhJ16_length_rS [a0] h) (wR.step (have Ec0 : fvJ16_length_rS [a0] h = (f_shr (h.2.1 (h.1.1 a0 0)) (fvJ16_coder_rS [a0] h)) := rfl; (match hg with | ⟨g1, g2, g3⟩ => ⟨g1, ⟨g2, ⟨g1, g3, ⟨rfl, Ec0.symm, rfl⟩⟩⟩⟩)))
    exact hF
  | [], hg => hg.elim
  | _ :: _ :: _, hg => hg.elim
def yJ16_isLatin1 : MethodName := ⟨RJ16, "isLatin1", "()Z"⟩
abbrev cJ16_isLatin1 : ByteArray := prog_59_method_154_code
noncomputable def bJ16_isLatin1_0 : tX := mx_push 1 (mx_push 0 (mi_eq (mx_go 17) (mx_go 6)))
noncomputable def bJ16_isLatin1_6 : tX := mx_load 0 (mx_getf 46 1 (mx_push 0 (mi_ne (mx_go 17) (mx_go 13))))
noncomputable def bJ16_isLatin1_13 : tX := mx_push 1 (mx_go 18)
noncomputable def bJ16_isLatin1_17 : tX := mx_push 0 (mx_go 18)
noncomputable def bJ16_isLatin1_18 : tX := mx_retz
noncomputable def tbJ16_isLatin1 : List tTe := [(0, ([(0, 2)], []), bJ16_isLatin1_0), (6, ([(0, 2)], []), bJ16_isLatin1_6), (13, ([(0, 2)], []), bJ16_isLatin1_13), (17, ([(0, 2)], []), bJ16_isLatin1_17), (18, ([(0, 2)], [0]), bJ16_isLatin1_18)]
noncomputable def bkJ16_isLatin1 : Nat → tX := tBk tbJ16_isLatin1
noncomputable def fJ16_isLatin1 : tFn := tFN [2] 1 bkJ16_isLatin1
noncomputable def eJ16_isLatin1 (D : tD) (b0 : Nat) : tM := (cJ16_isLatin1, 1, RJ16, tTy tbJ16_isLatin1, D, b0, 0, 0, some (.boolean), false, [])
noncomputable def opsJ16_isLatin1 : List tOpE := [(.getstatic 38, 3, [], [0], mx_push 1), (.getfield 15, 3, [2], [0], mx_getf 46 1), (.iconst 1, 1, [], [0], mx_push 1), (.iconst 0, 1, [], [0], mx_push 0)]
theorem okJ16_isLatin1 (D : tD) (b0 : Nat) : ∀ q ∈ opsJ16_isLatin1, OpOK (eJ16_isLatin1 D b0) q := (List.forall_mem_cons.mpr ⟨(fun pc lt ts K hd hst hK => ms_getsC q2402 (Or.inl rfl) hd hK), (List.forall_mem_cons.mpr ⟨opk_getf 46 1 0 rfl (Nat.le_of_ble_eq_true rfl) (Nat.le_of_ble_eq_true rfl) q2417 (Or.inl rfl) rfl, (List.forall_mem_cons.mpr ⟨opk_iconst 1, (List.forall_mem_cons.mpr ⟨opk_iconst 0, (fun q hq => by cases hq)⟩)⟩)⟩)⟩)
theorem ckJ16_isLatin1_0 : ckS (tBy cJ16_isLatin1) opsJ16_isLatin1 1 [(0, 0, 0)] 0 [(0, 2)] [] = some (3, [(0, 2)], [0]) := by decide +kernel
theorem hsJ16_isLatin1_0 (D : tD) (b0 : Nat) : tSx (eJ16_isLatin1 D b0) 0 [(0, 2)] [] bJ16_isLatin1_0 := ckS_ok (E := eJ16_isLatin1 D b0) (T := mx_push 0 (mi_eq (mx_go 17) (mx_go 6))) (okJ16_isLatin1 D b0) ckJ16_isLatin1_0 (ms_if_eq 17 (tDe (c := cJ16_isLatin1) (pc := 3) (i := .ifCond .eq 14) (n := 3) (by decide +kernel)) rfl (ms_at rfl rfl) (ms_at rfl rfl))
theorem ckJ16_isLatin1_6 : ckS (tBy cJ16_isLatin1) opsJ16_isLatin1 1 [(1, 0, 2), (0, 1, 0)] 6 [(0, 2)] [] = some (10, [(0, 2)], [0]) := by decide +kernel
theorem hsJ16_isLatin1_6 (D : tD) (b0 : Nat) : tSx (eJ16_isLatin1 D b0) 6 [(0, 2)] [] bJ16_isLatin1_6 := ckS_ok (E := eJ16_isLatin1 D b0) (T := mx_push 0 (mi_ne (mx_go 17) (mx_go 13))) (okJ16_isLatin1 D b0) ckJ16_isLatin1_6 (ms_if_ne 17 (tDe (c := cJ16_isLatin1) (pc := 10) (i := .ifCond .ne 7) (n := 3) (by decide +kernel)) rfl (ms_at rfl rfl) (ms_at rfl rfl))
theorem ckJ16_isLatin1_13 : ckS (tBy cJ16_isLatin1) opsJ16_isLatin1 1 [(0, 2, 0)] 13 [(0, 2)] [] = some (14, [(0, 2)], [0]) := by decide +kernel
theorem hsJ16_isLatin1_13 (D : tD) (b0 : Nat) : tSx (eJ16_isLatin1 D b0) 13 [(0, 2)] [] bJ16_isLatin1_13 := ckS_ok (E := eJ16_isLatin1 D b0) (T := mx_go 18) (okJ16_isLatin1 D b0) ckJ16_isLatin1_13 (ms_goto 18 (tDe (c := cJ16_isLatin1) (pc := 14) (i := .goto 4) (n := 3) (by decide +kernel)) rfl (ms_at rfl rfl))
theorem ckJ16_isLatin1_17 : ckS (tBy cJ16_isLatin1) opsJ16_isLatin1 1 [(0, 3, 0)] 17 [(0, 2)] [] = some (18, [(0, 2)], [0]) := by decide +kernel
theorem hsJ16_isLatin1_17 (D : tD) (b0 : Nat) : tSx (eJ16_isLatin1 D b0) 17 [(0, 2)] [] bJ16_isLatin1_17 := ckS_ok (E := eJ16_isLatin1 D b0) (T := mx_go 18) (okJ16_isLatin1 D b0) ckJ16_isLatin1_17 (ms_at rfl rfl)
theorem hsJ16_isLatin1_18 (D : tD) (b0 : Nat) : tSx (eJ16_isLatin1 D b0) 18 [(0, 2)] [0] bJ16_isLatin1_18 := (ms_zret (tDe (c := cJ16_isLatin1) (pc := 18) (i := .ireturn) (n := 1) (by decide +kernel)) rfl)
theorem sJ16_isLatin1 (D : tD) (b0 : Nat) : tMX D b0 yJ16_isLatin1 (ws_ yJ16_isLatin1 cJ16_isLatin1 1 (some (.boolean))) (some (.boolean)) [2] 0 0 fJ16_isLatin1 :=
  tMX.lim fun n => tMX.of n (te := tTy tbJ16_isLatin1) (ini := false) pfJ16_isLatin1 (fun h => by cases h) (Nat.le_of_ble_eq_true rfl) rfl rfl (tTb (E := eJ16_isLatin1 D b0) rfl (List.forall_mem_cons.mpr ⟨hsJ16_isLatin1_0 D b0, (List.forall_mem_cons.mpr ⟨hsJ16_isLatin1_6 D b0, (List.forall_mem_cons.mpr ⟨hsJ16_isLatin1_13 D b0, (List.forall_mem_cons.mpr ⟨hsJ16_isLatin1_17 D b0, (List.forall_mem_cons.mpr ⟨hsJ16_isLatin1_18 D b0, (fun q hq => by cases hq)⟩)⟩)⟩)⟩)⟩))
def fgJ16_isLatin1 : List Int → tH → Prop := fun as h => match as with
  | [a0] => h.2.2.1 a0 = 46 ∧ i32 (h.1.1 a0 1)
  | _ => False
def fvJ16_isLatin1 : List Int → tH → Int := fun as h => match as with
  | [a0] => (if ¬ (h.1.1 a0 1) = 0 then 0 else 1)
  | _ => 0
def fhJ16_isLatin1 : List Int → tH → tH := fun as h => h
theorem zJ16_isLatin1 : tZ fJ16_isLatin1 fgJ16_isLatin1 fvJ16_isLatin1 fhJ16_isLatin1 := fun as h hg => match as, hg with
  | [a0], hg => by
    obtain ⟨v, h2, hF, rfl, rfl⟩ := wN.of (ks := [2]) (nL := 1) (Bk := bkJ16_isLatin1) (as := [a0]) (h := h) (Q := fun v h2 => v = fvJ16_isLatin1 [a0] h ∧ h2 = fhJ16_isLatin1 [a0] h) (wR.step (have Ec0 : fvJ16_isLatin1 [a0] h = (if ¬ (h.1.1 a0 1) = 0 then 0 else 1) := rfl; (have H5 := hg; ⟨⟨l32_1, l32_0⟩, fun (z : 1 = 0) => absurd z (by decide), fun _ => (match H5 with | ⟨g2, g3⟩ => (show wR bkJ16_isLatin1 6 [a0] [] h _ from wR.step ⟨g2, ⟨⟨g3, l32_0⟩, fun (c4 : ¬ (h.1.1 a0 1) = 0) => have Ec4 := Ec0.trans (if_pos c4); (show wR bkJ16_isLatin1 17 [a0] [] h _ from wR.step (show wR bkJ16_isLatin1 18 [a0] [0] h _ from wR.step ⟨(Or.inl rfl), ⟨rfl, Ec4.symm, rfl⟩⟩)), fun (c4 : ¬ (¬ (h.1.1 a0 1) = 0)) => have Ec4 := Ec0.trans (if_neg c4); (show wR bkJ16_isLatin1 13 [a0] [] h _ from wR.step (show wR bkJ16_isLatin1 18 [a0] [1] h _ from wR.step ⟨(Or.inr rfl), ⟨rfl, Ec4.symm, rfl⟩⟩))⟩⟩))⟩)))
    exact hF
  | [], hg => hg.elim
  | _ :: _ :: _, hg => hg.elim
theorem fbJ16_isLatin1 : ∀ as h, fvJ16_isLatin1 as h = 0 ∨ fvJ16_isLatin1 as h = 1 := by
  intro as h
  unfold fvJ16_isLatin1
  repeat' split
  all_goals first | exact Or.inl rfl | exact Or.inr rfl
def yJ18_charAt : MethodName := ⟨RJ18, "charAt", "([BI)C"⟩
abbrev cJ18_charAt : ByteArray := prog_61_method_2_code
noncomputable def bJ18_charAt_0 : tX := mx_load 1 (mx_load 0 (mx_alen 3 (mx_callZv fJ16_checkIndex zJ16_checkIndex 2 (mx_go 6))))
noncomputable def bJ18_charAt_6 : tX := mx_load 0 (mx_load 1 (mx_ald 3 (mx_push 255 (mx_bin f_and (mx_un f_i2c (mx_retG 0 65535))))))
noncomputable def tbJ18_charAt : List tTe := [(0, ([(0, 2), (1, 0)], []), bJ18_charAt_0), (6, ([(0, 2), (1, 0)], []), bJ18_charAt_6)]
noncomputable def bkJ18_charAt : Nat → tX := tBk tbJ18_charAt
noncomputable def fJ18_charAt : tFn := tFN [2, 0] 2 bkJ18_charAt
noncomputable def eJ18_charAt (D : tD) (b0 : Nat) : tM := (cJ18_charAt, 2, RJ18, tTy tbJ18_charAt, D, b0, 2, 91, some (.char), false, [])
noncomputable def opsJ18_charAt : List tOpE := [(.arraylength, 1, [2], [0], mx_alen 3), (.invokestatic 9, 3, [0, 0], [], mx_callZv fJ16_checkIndex zJ16_checkIndex 2), (.baload, 1, [0, 2], [0], mx_ald 3), (.sipush 255, 3, [], [0], mx_push 255), (.iand, 1, [0, 0], [0], mx_bin f_and), (.i2c, 1, [0], [0], mx_un f_i2c)]
theorem okJ18_charAt (D : tD) (b0 : Nat) : ∀ q ∈ opsJ18_charAt, OpOK (eJ18_charAt D b0) q := (List.forall_mem_cons.mpr ⟨opk_alen 3 (Nat.le_of_ble_eq_true rfl) rfl, (List.forall_mem_cons.mpr ⟨(fun pc lt ts K hd hst hK => ms_callSZv (hz := zJ16_checkIndex) [0, 0] ts (sJ16_checkIndex D b0) q2448 q2370 q238 q2371 hcJ16 pd__pII_qV (Nat.le_of_ble_eq_true rfl) (Nat.le_trans (Nat.add_le_add_right (Nat.add_le_add_right hst _) _) (Nat.le_of_ble_eq_true rfl)) rfl rfl rfl rfl hd hK), (List.forall_mem_cons.mpr ⟨opk_bald, (List.forall_mem_cons.mpr ⟨opk_sipush sp_255, (List.forall_mem_cons.mpr ⟨opk_iand, (List.forall_mem_cons.mpr ⟨opk_i2c, (fun q hq => by cases hq)⟩)⟩)⟩)⟩)⟩)⟩)
theorem ckJ18_charAt_0 : ckS (tBy cJ18_charAt) opsJ18_charAt 2 [(1, 1, 0), (1, 0, 2), (0, 0, 0), (0, 1, 0)] 0 [(0, 2), (1, 0)] [] = some (6, [(0, 2), (1, 0)], []) := by decide +kernel
theorem hsJ18_charAt_0 (D : tD) (b0 : Nat) : tSx (eJ18_charAt D b0) 0 [(0, 2), (1, 0)] [] bJ18_charAt_0 := ckS_ok (E := eJ18_charAt D b0) (T := mx_go 6) (okJ18_charAt D b0) ckJ18_charAt_0 (ms_at rfl rfl)
theorem ckJ18_charAt_6 : ckS (tBy cJ18_charAt) opsJ18_charAt 2 [(1, 0, 2), (1, 1, 0), (0, 2, 0), (0, 3, 0), (0, 4, 0), (0, 5, 0)] 6 [(0, 2), (1, 0)] [] = some (14, [(0, 2), (1, 0)], [0]) := by decide +kernel
theorem hsJ18_charAt_6 (D : tD) (b0 : Nat) : tSx (eJ18_charAt D b0) 6 [(0, 2), (1, 0)] [] bJ18_charAt_6 := ckS_ok (E := eJ18_charAt D b0) (T := mx_retG 0 65535) (okJ18_charAt D b0) ckJ18_charAt_6 (ms_retG 0 65535 (tDe (c := cJ18_charAt) (pc := 14) (i := .ireturn) (n := 1) (by decide +kernel)) rfl rfl nar_c)
theorem sJ18_charAt (D : tD) (b0 : Nat) : tMX D b0 yJ18_charAt (ws_ yJ18_charAt cJ18_charAt 2 (some (.char))) (some (.char)) [2, 0] 2 91 fJ18_charAt :=
  tMX.lim fun n => tMX.of n (te := tTy tbJ18_charAt) (ini := false) pfJ18_charAt (fun h => by cases h) (Nat.le_of_ble_eq_true rfl) rfl rfl (tTb (E := eJ18_charAt D b0) rfl (List.forall_mem_cons.mpr ⟨hsJ18_charAt_0 D b0, (List.forall_mem_cons.mpr ⟨hsJ18_charAt_6 D b0, (fun q hq => by cases hq)⟩)⟩))
def fgJ18_charAt : List Int → tH → Prop := fun as h => match as with
  | [a0, a1] => h.2.2.1 a0 = 1003 ∧ fgJ16_checkIndex [a1, (h.2.1 a0)] h ∧ 0 ≤ a1 ∧ a1 < h.2.1 a0 ∧ 0 ≤ (f_i2c (f_and (h.1.2 a0 a1) 255)) ∧ (f_i2c (f_and (h.1.2 a0 a1) 255)) ≤ 65535
  | _ => False
def fvJ18_charAt : List Int → tH → Int := fun as h => match as with
  | [a0, a1] => (f_i2c (f_and (h.1.2 a0 a1) 255))
  | _ => 0
def fhJ18_charAt : List Int → tH → tH := fun as h => h
theorem zJ18_charAt : tZ fJ18_charAt fgJ18_charAt fvJ18_charAt fhJ18_charAt := fun as h hg => match as, hg with
  | [a0, a1], hg => by
    obtain ⟨v, h2, hF, rfl, rfl⟩ := wN.of (ks := [2, 0]) (nL := 2) (Bk := bkJ18_charAt) (as := [a0, a1]) (h := h) (Q := fun v h2 => v = fvJ18_charAt [a0, a1] h ∧ h2 = fhJ18_charAt [a0, a1] h) (wR.step (have Ec0 : fvJ18_charAt [a0, a1] h = (f_i2c (f_and (h.1.2 a0 a1) 255)) := rfl; (match hg with | ⟨g1, g2, g3, g4, g5, g6⟩ => ⟨g1, ⟨g2, (show wR bkJ18_charAt 6 [a0, a1] [] h _ from wR.step ⟨⟨g1, g3, g4⟩, ⟨⟨g5, g6⟩, ⟨rfl, Ec0.symm, rfl⟩⟩⟩)⟩⟩)))
    exact hF
  | [], hg => hg.elim
  | [_], hg => hg.elim
  | _ :: _ :: _ :: _, hg => hg.elim
def yJ16_charAt : MethodName := ⟨RJ16, "charAt", "(I)C"⟩
abbrev cJ16_charAt : ByteArray := prog_59_method_56_code
noncomputable def bJ16_charAt_0 : tX := mx_load 0 (mv_callZ 46 fJ16_isLatin1 zJ16_isLatin1 1 (mx_push 0 (mi_eq mx_none (mx_go 7))))
noncomputable def bJ16_charAt_7 : tX := mx_load 0 (mx_getf 46 0 (mx_load 1 (mx_callZ fJ18_charAt zJ18_charAt 2 (mx_retG 0 65535))))
noncomputable def tbJ16_charAt : List tTe := [(0, ([(0, 2), (1, 0)], []), bJ16_charAt_0), (7, ([(0, 2), (1, 0)], []), bJ16_charAt_7)]
noncomputable def bkJ16_charAt : Nat → tX := tBk tbJ16_charAt
noncomputable def fJ16_charAt : tFn := tFN [2, 0] 2 bkJ16_charAt
noncomputable def eJ16_charAt (D : tD) (b0 : Nat) : tM := (cJ16_charAt, 2, RJ16, tTy tbJ16_charAt, D, b0, 3, 136, some (.char), false, [])
noncomputable def opsJ16_charAt : List tOpE := [(.invokevirtual 492, 3, [2], [0], mv_callZ 46 fJ16_isLatin1 zJ16_isLatin1 1), (.getfield 9, 3, [2], [2], mx_getf 46 0), (.invokestatic 495, 3, [0, 2], [0], mx_callZ fJ18_charAt zJ18_charAt 2)]
theorem okJ16_charAt (D : tD) (b0 : Nat) : ∀ q ∈ opsJ16_charAt, OpOK (eJ16_charAt D b0) q := (List.forall_mem_cons.mpr ⟨(fun pc lt ts K hd hst hK => ms_callVZ (hz := zJ16_isLatin1) 46 [] ts (sJ16_isLatin1 D b0) (Nat.le_of_ble_eq_true rfl) rfl q2441 q2442 q2443 q238 q2444 hcJ16 pd__p_qZ (Nat.le_of_ble_eq_true rfl) (Nat.le_trans (Nat.add_le_add_right (Nat.add_le_add_right hst _) _) (Nat.le_of_ble_eq_true rfl)) rfl rfl rfl rfl hd hK), (List.forall_mem_cons.mpr ⟨opk_getf 46 0 2 rfl (Nat.le_of_ble_eq_true rfl) (Nat.le_of_ble_eq_true rfl) q2416 (Or.inl rfl) rfl, (List.forall_mem_cons.mpr ⟨(fun pc lt ts K hd hst hK => ms_callSZ (hz := zJ18_charAt) [2, 0] ts (sJ18_charAt D b0) q2445 q2446 q240 q2447 hcJ18 pd__p_aBI_qC (Nat.le_of_ble_eq_true rfl) (Nat.le_trans (Nat.add_le_add_right (Nat.add_le_add_right hst _) _) (Nat.le_of_ble_eq_true rfl)) rfl rfl rfl rfl hd hK), (fun q hq => by cases hq)⟩)⟩)⟩)
theorem ckJ16_charAt_0 : ckS (tBy cJ16_charAt) opsJ16_charAt 2 [(1, 0, 2), (0, 0, 0)] 0 [(0, 2), (1, 0)] [] = some (4, [(0, 2), (1, 0)], [0]) := by decide +kernel
theorem hsJ16_charAt_0 (D : tD) (b0 : Nat) : tSx (eJ16_charAt D b0) 0 [(0, 2), (1, 0)] [] bJ16_charAt_0 := ckS_ok (E := eJ16_charAt D b0) (T := mx_push 0 (mi_eq mx_none (mx_go 7))) (okJ16_charAt D b0) ckJ16_charAt_0 (ms_if_eq 16 (tDe (c := cJ16_charAt) (pc := 4) (i := .ifCond .eq 12) (n := 3) (by decide +kernel)) rfl ms_none (ms_at rfl rfl))
theorem ckJ16_charAt_7 : ckS (tBy cJ16_charAt) opsJ16_charAt 2 [(1, 0, 2), (0, 1, 0), (1, 1, 0), (0, 2, 0)] 7 [(0, 2), (1, 0)] [] = some (15, [(0, 2), (1, 0)], [0]) := by decide +kernel
theorem hsJ16_charAt_7 (D : tD) (b0 : Nat) : tSx (eJ16_charAt D b0) 7 [(0, 2), (1, 0)] [] bJ16_charAt_7 := ckS_ok (E := eJ16_charAt D b0) (T := mx_retG 0 65535) (okJ16_charAt D b0) ckJ16_charAt_7 (ms_retG 0 65535 (tDe (c := cJ16_charAt) (pc := 15) (i := .ireturn) (n := 1) (by decide +kernel)) rfl rfl nar_c)
theorem sJ16_charAt (D : tD) (b0 : Nat) : tMX D b0 yJ16_charAt (ws_ yJ16_charAt cJ16_charAt 2 (some (.char))) (some (.char)) [2, 0] 3 136 fJ16_charAt :=
  tMX.lim fun n => tMX.of n (te := tTy tbJ16_charAt) (ini := false) pfJ16_charAt (fun h => by cases h) (Nat.le_of_ble_eq_true rfl) rfl rfl (tTb (E := eJ16_charAt D b0) rfl (List.forall_mem_cons.mpr ⟨hsJ16_charAt_0 D b0, (List.forall_mem_cons.mpr ⟨hsJ16_charAt_7 D b0, (fun q hq => by cases hq)⟩)⟩))
def fgJ16_charAt : List Int → tH → Prop := fun as h => match as with
  | [a0, a1] => h.2.2.1 a0 = 46 ∧ fgJ16_isLatin1 [a0] h ∧ i32 (fvJ16_isLatin1 [a0] h) ∧ ((fvJ16_isLatin1 [a0] h) = 0 → False) ∧ (¬ ((fvJ16_isLatin1 [a0] h) = 0) → fgJ18_charAt [(h.1.1 a0 0), a1] h ∧ 0 ≤ (fvJ18_charAt [(h.1.1 a0 0), a1] h) ∧ (fvJ18_charAt [(h.1.1 a0 0), a1] h) ≤ 65535)
  | _ => False
def fvJ16_charAt : List Int → tH → Int := fun as h => match as with
  | [a0, a1] => (if (fvJ16_isLatin1 [a0] h) = 0 then 0 else (fvJ18_charAt [(h.1.1 a0 0), a1] h))
  | _ => 0
def fhJ16_charAt : List Int → tH → tH := fun as h => h
theorem zJ16_charAt : tZ fJ16_charAt fgJ16_charAt fvJ16_charAt fhJ16_charAt := fun as h hg => match as, hg with
  | [a0, a1], hg => by
    obtain ⟨v, h2, hF, rfl, rfl⟩ := wN.of (ks := [2, 0]) (nL := 2) (Bk := bkJ16_charAt) (as := [a0, a1]) (h := h) (Q := fun v h2 => v = fvJ16_charAt [a0, a1] h ∧ h2 = fhJ16_charAt [a0, a1] h) (wR.step (have Ec0 : fvJ16_charAt [a0, a1] h = (if (fvJ16_isLatin1 [a0] h) = 0 then 0 else (fvJ18_charAt [(h.1.1 a0 0), a1] h)) := rfl; (match hg with | ⟨g1, g2, g3, H8, H9⟩ => ⟨g1, g2, ⟨⟨g3, l32_0⟩, fun (c4 : (fvJ16_isLatin1 [a0] h) = 0) => have Ec4 := Ec0.trans (if_pos c4); (have H10 := (H8 c4); H10), fun (c4 : ¬ ((fvJ16_isLatin1 [a0] h) = 0)) => have Ec4 := Ec0.trans (if_neg c4); (match (H9 c4) with | ⟨g5, g6, g7⟩ => (show wR bkJ16_charAt 7 [a0, a1] [] h _ from wR.step ⟨g1, ⟨g5, ⟨⟨g6, g7⟩, ⟨rfl, Ec4.symm, rfl⟩⟩⟩⟩))⟩⟩)))
    exact hF
  | [], hg => hg.elim
  | [_], hg => hg.elim
  | _ :: _ :: _ :: _, hg => hg.elim
noncomputable def bJ16_isLatin1_rS_0 : tX := mx_push 1 (mx_push 0 (mi_eq (mx_go 17) (mx_go 6)))
noncomputable def bJ16_isLatin1_rS_6 : tX := mx_load 0 (mx_getf 2046 1 (mx_push 0 (mi_ne (mx_go 17) (mx_go 13))))
noncomputable def bJ16_isLatin1_rS_13 : tX := mx_push 1 (mx_go 18)
noncomputable def bJ16_isLatin1_rS_17 : tX := mx_push 0 (mx_go 18)
noncomputable def bJ16_isLatin1_rS_18 : tX := mx_retz
noncomputable def tbJ16_isLatin1_rS : List tTe := [(0, ([(0, 2)], []), bJ16_isLatin1_rS_0), (6, ([(0, 2)], []), bJ16_isLatin1_rS_6), (13, ([(0, 2)], []), bJ16_isLatin1_rS_13), (17, ([(0, 2)], []), bJ16_isLatin1_rS_17), (18, ([(0, 2)], [0]), bJ16_isLatin1_rS_18)]
noncomputable def bkJ16_isLatin1_rS : Nat → tX := tBk tbJ16_isLatin1_rS
noncomputable def fJ16_isLatin1_rS : tFn := tFN [2] 1 bkJ16_isLatin1_rS
noncomputable def eJ16_isLatin1_rS (D : tD) (b0 : Nat) : tM := (cJ16_isLatin1, 1, RJ16, tTy tbJ16_isLatin1_rS, D, b0, 0, 0, some (.boolean), false, [])
noncomputable def opsJ16_isLatin1_rS : List tOpE := [(.getstatic 38, 3, [], [0], mx_push 1), (.getfield 15, 3, [2], [0], mx_getf 2046 1), (.iconst 1, 1, [], [0], mx_push 1), (.iconst 0, 1, [], [0], mx_push 0)]
theorem okJ16_isLatin1_rS (D : tD) (b0 : Nat) : ∀ q ∈ opsJ16_isLatin1_rS, OpOK (eJ16_isLatin1_rS D b0) q := (List.forall_mem_cons.mpr ⟨(fun pc lt ts K hd hst hK => ms_getsC q2402 (Or.inl rfl) hd hK), (List.forall_mem_cons.mpr ⟨opk_getf 2046 1 0 rfl (Nat.le_of_ble_eq_true rfl) (Nat.le_of_ble_eq_true rfl) q2417 (Or.inl rfl) rfl, (List.forall_mem_cons.mpr ⟨opk_iconst 1, (List.forall_mem_cons.mpr ⟨opk_iconst 0, (fun q hq => by cases hq)⟩)⟩)⟩)⟩)
theorem ckJ16_isLatin1_rS_0 : ckS (tBy cJ16_isLatin1) opsJ16_isLatin1_rS 1 [(0, 0, 0)] 0 [(0, 2)] [] = some (3, [(0, 2)], [0]) := by decide +kernel
theorem hsJ16_isLatin1_rS_0 (D : tD) (b0 : Nat) : tSx (eJ16_isLatin1_rS D b0) 0 [(0, 2)] [] bJ16_isLatin1_rS_0 := ckS_ok (E := eJ16_isLatin1_rS D b0) (T := mx_push 0 (mi_eq (mx_go 17) (mx_go 6))) (okJ16_isLatin1_rS D b0) ckJ16_isLatin1_rS_0 (ms_if_eq 17 (tDe (c := cJ16_isLatin1) (pc := 3) (i := .ifCond .eq 14) (n := 3) (by decide +kernel)) rfl (ms_at rfl rfl) (ms_at rfl rfl))
theorem ckJ16_isLatin1_rS_6 : ckS (tBy cJ16_isLatin1) opsJ16_isLatin1_rS 1 [(1, 0, 2), (0, 1, 0)] 6 [(0, 2)] [] = some (10, [(0, 2)], [0]) := by decide +kernel
theorem hsJ16_isLatin1_rS_6 (D : tD) (b0 : Nat) : tSx (eJ16_isLatin1_rS D b0) 6 [(0, 2)] [] bJ16_isLatin1_rS_6 := ckS_ok (E := eJ16_isLatin1_rS D b0) (T := mx_push 0 (mi_ne (mx_go 17) (mx_go 13))) (okJ16_isLatin1_rS D b0) ckJ16_isLatin1_rS_6 (ms_if_ne 17 (tDe (c := cJ16_isLatin1) (pc := 10) (i := .ifCond .ne 7) (n := 3) (by decide +kernel)) rfl (ms_at rfl rfl) (ms_at rfl rfl))
theorem ckJ16_isLatin1_rS_13 : ckS (tBy cJ16_isLatin1) opsJ16_isLatin1_rS 1 [(0, 2, 0)] 13 [(0, 2)] [] = some (14, [(0, 2)], [0]) := by decide +kernel
theorem hsJ16_isLatin1_rS_13 (D : tD) (b0 : Nat) : tSx (eJ16_isLatin1_rS D b0) 13 [(0, 2)] [] bJ16_isLatin1_rS_13 := ckS_ok (E := eJ16_isLatin1_rS D b0) (T := mx_go 18) (okJ16_isLatin1_rS D b0) ckJ16_isLatin1_rS_13 (ms_goto 18 (tDe (c := cJ16_isLatin1) (pc := 14) (i := .goto 4) (n := 3) (by decide +kernel)) rfl (ms_at rfl rfl))
theorem ckJ16_isLatin1_rS_17 : ckS (tBy cJ16_isLatin1) opsJ16_isLatin1_rS 1 [(0, 3, 0)] 17 [(0, 2)] [] = some (18, [(0, 2)], [0]) := by decide +kernel
theorem hsJ16_isLatin1_rS_17 (D : tD) (b0 : Nat) : tSx (eJ16_isLatin1_rS D b0) 17 [(0, 2)] [] bJ16_isLatin1_rS_17 := ckS_ok (E := eJ16_isLatin1_rS D b0) (T := mx_go 18) (okJ16_isLatin1_rS D b0) ckJ16_isLatin1_rS_17 (ms_at rfl rfl)
theorem hsJ16_isLatin1_rS_18 (D : tD) (b0 : Nat) : tSx (eJ16_isLatin1_rS D b0) 18 [(0, 2)] [0] bJ16_isLatin1_rS_18 := (ms_zret (tDe (c := cJ16_isLatin1) (pc := 18) (i := .ireturn) (n := 1) (by decide +kernel)) rfl)
theorem sJ16_isLatin1_rS (D : tD) (b0 : Nat) : tMX D b0 yJ16_isLatin1 (ws_ yJ16_isLatin1 cJ16_isLatin1 1 (some (.boolean))) (some (.boolean)) [2] 0 0 fJ16_isLatin1_rS :=
  tMX.lim fun n => tMX.of n (te := tTy tbJ16_isLatin1_rS) (ini := false) pfJ16_isLatin1 (fun h => by cases h) (Nat.le_of_ble_eq_true rfl) rfl rfl (tTb (E := eJ16_isLatin1_rS D b0) rfl (List.forall_mem_cons.mpr ⟨hsJ16_isLatin1_rS_0 D b0, (List.forall_mem_cons.mpr ⟨hsJ16_isLatin1_rS_6 D b0, (List.forall_mem_cons.mpr ⟨hsJ16_isLatin1_rS_13 D b0, (List.forall_mem_cons.mpr ⟨hsJ16_isLatin1_rS_17 D b0, (List.forall_mem_cons.mpr ⟨hsJ16_isLatin1_rS_18 D b0, (fun q hq => by cases hq)⟩)⟩)⟩)⟩)⟩))
def fgJ16_isLatin1_rS : List Int → tH → Prop := fun as h => match as with
  | [a0] => h.2.2.1 a0 = 2046 ∧ i32 (h.1.1 a0 1)
  | _ => False
def fvJ16_isLatin1_rS : List Int → tH → Int := fun as h => match as with
  | [a0] => (if ¬ (h.1.1 a0 1) = 0 then 0 else 1)
  | _ => 0
def fhJ16_isLatin1_rS : List Int → tH → tH := fun as h => h
theorem zJ16_isLatin1_rS : tZ fJ16_isLatin1_rS fgJ16_isLatin1_rS fvJ16_isLatin1_rS fhJ16_isLatin1_rS := fun as h hg => match as, hg with
  | [a0], hg => by
    obtain ⟨v, h2, hF, rfl, rfl⟩ := wN.of (ks := [2]) (nL := 1) (Bk := bkJ16_isLatin1_rS) (as := [a0]) (h := h) (Q := fun v h2 => v = fvJ16_isLatin1_rS [a0] h ∧ h2 = fhJ16_isLatin1_rS [a0] h) (wR.step (have Ec0 : fvJ16_isLatin1_rS [a0] h = (if ¬ (h.1.1 a0 1) = 0 then 0 else 1) := rfl; (have H5 := hg; ⟨⟨l32_1, l32_0⟩, fun (z : 1 = 0) => absurd z (by decide), fun _ => (match H5 with | ⟨g2, g3⟩ => (show wR bkJ16_isLatin1_rS 6 [a0] [] h _ from wR.step ⟨g2, ⟨⟨g3, l32_0⟩, fun (c4 : ¬ (h.1.1 a0 1) = 0) => have Ec4 := Ec0.trans (if_pos c4); (show wR bkJ16_isLatin1_rS 17 [a0] [] h _ from wR.step (show wR bkJ16_isLatin1_rS 18 [a0] [0] h _ from wR.step ⟨(Or.inl rfl), ⟨rfl, Ec4.symm, rfl⟩⟩)), fun (c4 : ¬ (¬ (h.1.1 a0 1) = 0)) => have Ec4 := Ec0.trans (if_neg c4); (show wR bkJ16_isLatin1_rS 13 [a0] [] h _ from wR.step (show wR bkJ16_isLatin1_rS 18 [a0] [1] h _ from wR.step ⟨(Or.inr rfl), ⟨rfl, Ec4.symm, rfl⟩⟩))⟩⟩))⟩)))
    exact hF
  | [], hg => hg.elim
  | _ :: _ :: _, hg => hg.elim
theorem fbJ16_isLatin1_rS : ∀ as h, fvJ16_isLatin1_rS as h = 0 ∨ fvJ16_isLatin1_rS as h = 1 := by
  intro as h
  unfold fvJ16_isLatin1_rS
  repeat' split
  all_goals first | exact Or.inl rfl | exact Or.inr rfl
noncomputable def bJ18_charAt_o_0 : tX := mx_load 1 (mx_load 0 (mx_alen 1003 (mx_callZv fJ16_checkIndex zJ16_checkIndex 2 (mx_go 6))))
noncomputable def bJ18_charAt_o_6 : tX := mx_load 0 (mx_load 1 (mx_ald 1003 (mx_push 255 (mx_bin f_and (mx_un f_i2c (mx_retG 0 65535))))))
noncomputable def tbJ18_charAt_o : List tTe := [(0, ([(0, 2), (1, 0)], []), bJ18_charAt_o_0), (6, ([(0, 2), (1, 0)], []), bJ18_charAt_o_6)]
noncomputable def bkJ18_charAt_o : Nat → tX := tBk tbJ18_charAt_o
noncomputable def fJ18_charAt_o : tFn := tFN [2, 0] 2 bkJ18_charAt_o
noncomputable def eJ18_charAt_o (D : tD) (b0 : Nat) : tM := (cJ18_charAt, 2, RJ18, tTy tbJ18_charAt_o, D, b0, 2, 91, some (.char), false, [])
noncomputable def opsJ18_charAt_o : List tOpE := [(.arraylength, 1, [2], [0], mx_alen 1003), (.invokestatic 9, 3, [0, 0], [], mx_callZv fJ16_checkIndex zJ16_checkIndex 2), (.baload, 1, [0, 2], [0], mx_ald 1003), (.sipush 255, 3, [], [0], mx_push 255), (.iand, 1, [0, 0], [0], mx_bin f_and), (.i2c, 1, [0], [0], mx_un f_i2c)]
theorem okJ18_charAt_o (D : tD) (b0 : Nat) : ∀ q ∈ opsJ18_charAt_o, OpOK (eJ18_charAt_o D b0) q := (List.forall_mem_cons.mpr ⟨opk_alen 1003 (Nat.le_of_ble_eq_true rfl) rfl, (List.forall_mem_cons.mpr ⟨(fun pc lt ts K hd hst hK => ms_callSZv (hz := zJ16_checkIndex) [0, 0] ts (sJ16_checkIndex D b0) q2448 q2370 q238 q2371 hcJ16 pd__pII_qV (Nat.le_of_ble_eq_true rfl) (Nat.le_trans (Nat.add_le_add_right (Nat.add_le_add_right hst _) _) (Nat.le_of_ble_eq_true rfl)) rfl rfl rfl rfl hd hK), (List.forall_mem_cons.mpr ⟨(fun pc lt ts K hd hst hK => ms_baldO hd hK), (List.forall_mem_cons.mpr ⟨opk_sipush sp_255, (List.forall_mem_cons.mpr ⟨opk_iand, (List.forall_mem_cons.mpr ⟨opk_i2c, (fun q hq => by cases hq)⟩)⟩)⟩)⟩)⟩)⟩)
theorem ckJ18_charAt_o_0 : ckS (tBy cJ18_charAt) opsJ18_charAt_o 2 [(1, 1, 0), (1, 0, 2), (0, 0, 0), (0, 1, 0)] 0 [(0, 2), (1, 0)] [] = some (6, [(0, 2), (1, 0)], []) := by decide +kernel
theorem hsJ18_charAt_o_0 (D : tD) (b0 : Nat) : tSx (eJ18_charAt_o D b0) 0 [(0, 2), (1, 0)] [] bJ18_charAt_o_0 := ckS_ok (E := eJ18_charAt_o D b0) (T := mx_go 6) (okJ18_charAt_o D b0) ckJ18_charAt_o_0 (ms_at rfl rfl)
theorem ckJ18_charAt_o_6 : ckS (tBy cJ18_charAt) opsJ18_charAt_o 2 [(1, 0, 2), (1, 1, 0), (0, 2, 0), (0, 3, 0), (0, 4, 0), (0, 5, 0)] 6 [(0, 2), (1, 0)] [] = some (14, [(0, 2), (1, 0)], [0]) := by decide +kernel
theorem hsJ18_charAt_o_6 (D : tD) (b0 : Nat) : tSx (eJ18_charAt_o D b0) 6 [(0, 2), (1, 0)] [] bJ18_charAt_o_6 := ckS_ok (E := eJ18_charAt_o D b0) (T := mx_retG 0 65535) (okJ18_charAt_o D b0) ckJ18_charAt_o_6 (ms_retG 0 65535 (tDe (c := cJ18_charAt) (pc := 14) (i := .ireturn) (n := 1) (by decide +kernel)) rfl rfl nar_c)
theorem sJ18_charAt_o (D : tD) (b0 : Nat) : tMX D b0 yJ18_charAt (ws_ yJ18_charAt cJ18_charAt 2 (some (.char))) (some (.char)) [2, 0] 2 91 fJ18_charAt_o :=
  tMX.lim fun n => tMX.of n (te := tTy tbJ18_charAt_o) (ini := false) pfJ18_charAt (fun h => by cases h) (Nat.le_of_ble_eq_true rfl) rfl rfl (tTb (E := eJ18_charAt_o D b0) rfl (List.forall_mem_cons.mpr ⟨hsJ18_charAt_o_0 D b0, (List.forall_mem_cons.mpr ⟨hsJ18_charAt_o_6 D b0, (fun q hq => by cases hq)⟩)⟩))
def fgJ18_charAt_o : List Int → tH → Prop := fun as h => match as with
  | [a0, a1] => h.2.2.1 a0 = 2003 ∧ fgJ16_checkIndex [a1, (h.2.1 a0)] h ∧ 0 ≤ a1 ∧ a1 < h.2.1 a0 ∧ 0 ≤ (f_i2c (f_and (h.1.2 a0 a1) 255)) ∧ (f_i2c (f_and (h.1.2 a0 a1) 255)) ≤ 65535
  | _ => False
def fvJ18_charAt_o : List Int → tH → Int := fun as h => match as with
  | [a0, a1] => (f_i2c (f_and (h.1.2 a0 a1) 255))
  | _ => 0
def fhJ18_charAt_o : List Int → tH → tH := fun as h => h
theorem zJ18_charAt_o : tZ fJ18_charAt_o fgJ18_charAt_o fvJ18_charAt_o fhJ18_charAt_o := fun as h hg => match as, hg with
  | [a0, a1], hg => by
    obtain ⟨v, h2, hF, rfl, rfl⟩ := wN.of (ks := [2, 0]) (nL := 2) (Bk := bkJ18_charAt_o) (as := [a0, a1]) (h := h) (Q := fun v h2 => v = fvJ18_charAt_o [a0, a1] h ∧ h2 = fhJ18_charAt_o [a0, a1] h) (wR.step (have Ec0 : fvJ18_charAt_o [a0, a1] h = (f_i2c (f_and (h.1.2 a0 a1) 255)) := rfl; (match hg with | ⟨g1, g2, g3, g4, g5, g6⟩ => ⟨g1, ⟨g2, (show wR bkJ18_charAt_o 6 [a0, a1] [] h _ from wR.step ⟨⟨g1, g3, g4⟩, ⟨⟨g5, g6⟩, ⟨rfl, Ec0.symm, rfl⟩⟩⟩)⟩⟩)))
    exact hF
  | [], hg => hg.elim
  | [_], hg => hg.elim
  | _ :: _ :: _ :: _, hg => hg.elim
noncomputable def bJ16_charAt_rS_0 : tX := mx_load 0 (mv_callZ 2046 fJ16_isLatin1_rS zJ16_isLatin1_rS 1 (mx_push 0 (mi_eq mx_none (mx_go 7))))
noncomputable def bJ16_charAt_rS_7 : tX := mx_load 0 (mx_getf 2046 0 (mx_load 1 (mx_callZ fJ18_charAt_o zJ18_charAt_o 2 (mx_retG 0 65535))))
noncomputable def tbJ16_charAt_rS : List tTe := [(0, ([(0, 2), (1, 0)], []), bJ16_charAt_rS_0), (7, ([(0, 2), (1, 0)], []), bJ16_charAt_rS_7)]
noncomputable def bkJ16_charAt_rS : Nat → tX := tBk tbJ16_charAt_rS
noncomputable def fJ16_charAt_rS : tFn := tFN [2, 0] 2 bkJ16_charAt_rS
noncomputable def eJ16_charAt_rS (D : tD) (b0 : Nat) : tM := (cJ16_charAt, 2, RJ16, tTy tbJ16_charAt_rS, D, b0, 3, 136, some (.char), false, [])
noncomputable def opsJ16_charAt_rS : List tOpE := [(.invokevirtual 492, 3, [2], [0], mv_callZ 2046 fJ16_isLatin1_rS zJ16_isLatin1_rS 1), (.getfield 9, 3, [2], [2], mx_getf 2046 0), (.invokestatic 495, 3, [0, 2], [0], mx_callZ fJ18_charAt_o zJ18_charAt_o 2)]
theorem okJ16_charAt_rS (D : tD) (b0 : Nat) : ∀ q ∈ opsJ16_charAt_rS, OpOK (eJ16_charAt_rS D b0) q := (List.forall_mem_cons.mpr ⟨(fun pc lt ts K hd hst hK => ms_callVZ (hz := zJ16_isLatin1_rS) 2046 [] ts (sJ16_isLatin1_rS D b0) (Nat.le_of_ble_eq_true rfl) rfl q2441 q2442 q2443 q238 q2444 hcJ16 pd__p_qZ (Nat.le_of_ble_eq_true rfl) (Nat.le_trans (Nat.add_le_add_right (Nat.add_le_add_right hst _) _) (Nat.le_of_ble_eq_true rfl)) rfl rfl rfl rfl hd hK), (List.forall_mem_cons.mpr ⟨opk_getf 2046 0 2 rfl (Nat.le_of_ble_eq_true rfl) (Nat.le_of_ble_eq_true rfl) q2416 (Or.inl rfl) rfl, (List.forall_mem_cons.mpr ⟨(fun pc lt ts K hd hst hK => ms_callSZ (hz := zJ18_charAt_o) [2, 0] ts (sJ18_charAt_o D b0) q2445 q2446 q240 q2447 hcJ18 pd__p_aBI_qC (Nat.le_of_ble_eq_true rfl) (Nat.le_trans (Nat.add_le_add_right (Nat.add_le_add_right hst _) _) (Nat.le_of_ble_eq_true rfl)) rfl rfl rfl rfl hd hK), (fun q hq => by cases hq)⟩)⟩)⟩)
theorem ckJ16_charAt_rS_0 : ckS (tBy cJ16_charAt) opsJ16_charAt_rS 2 [(1, 0, 2), (0, 0, 0)] 0 [(0, 2), (1, 0)] [] = some (4, [(0, 2), (1, 0)], [0]) := by decide +kernel
theorem hsJ16_charAt_rS_0 (D : tD) (b0 : Nat) : tSx (eJ16_charAt_rS D b0) 0 [(0, 2), (1, 0)] [] bJ16_charAt_rS_0 := ckS_ok (E := eJ16_charAt_rS D b0) (T := mx_push 0 (mi_eq mx_none (mx_go 7))) (okJ16_charAt_rS D b0) ckJ16_charAt_rS_0 (ms_if_eq 16 (tDe (c := cJ16_charAt) (pc := 4) (i := .ifCond .eq 12) (n := 3) (by decide +kernel)) rfl ms_none (ms_at rfl rfl))
theorem ckJ16_charAt_rS_7 : ckS (tBy cJ16_charAt) opsJ16_charAt_rS 2 [(1, 0, 2), (0, 1, 0), (1, 1, 0), (0, 2, 0)] 7 [(0, 2), (1, 0)] [] = some (15, [(0, 2), (1, 0)], [0]) := by decide +kernel
theorem hsJ16_charAt_rS_7 (D : tD) (b0 : Nat) : tSx (eJ16_charAt_rS D b0) 7 [(0, 2), (1, 0)] [] bJ16_charAt_rS_7 := ckS_ok (E := eJ16_charAt_rS D b0) (T := mx_retG 0 65535) (okJ16_charAt_rS D b0) ckJ16_charAt_rS_7 (ms_retG 0 65535 (tDe (c := cJ16_charAt) (pc := 15) (i := .ireturn) (n := 1) (by decide +kernel)) rfl rfl nar_c)
theorem sJ16_charAt_rS (D : tD) (b0 : Nat) : tMX D b0 yJ16_charAt (ws_ yJ16_charAt cJ16_charAt 2 (some (.char))) (some (.char)) [2, 0] 3 136 fJ16_charAt_rS :=
  tMX.lim fun n => tMX.of n (te := tTy tbJ16_charAt_rS) (ini := false) pfJ16_charAt (fun h => by cases h) (Nat.le_of_ble_eq_true rfl) rfl rfl (tTb (E := eJ16_charAt_rS D b0) rfl (List.forall_mem_cons.mpr ⟨hsJ16_charAt_rS_0 D b0, (List.forall_mem_cons.mpr ⟨hsJ16_charAt_rS_7 D b0, (fun q hq => by cases hq)⟩)⟩))
def fgJ16_charAt_rS : List Int → tH → Prop := fun as h => match as with
  | [a0, a1] => h.2.2.1 a0 = 2046 ∧ fgJ16_isLatin1_rS [a0] h ∧ i32 (fvJ16_isLatin1_rS [a0] h) ∧ ((fvJ16_isLatin1_rS [a0] h) = 0 → False) ∧ (¬ ((fvJ16_isLatin1_rS [a0] h) = 0) → fgJ18_charAt_o [(h.1.1 a0 0), a1] h ∧ 0 ≤ (fvJ18_charAt_o [(h.1.1 a0 0), a1] h) ∧ (fvJ18_charAt_o [(h.1.1 a0 0), a1] h) ≤ 65535)
  | _ => False
def fvJ16_charAt_rS : List Int → tH → Int := fun as h => match as with
  | [a0, a1] => (if (fvJ16_isLatin1_rS [a0] h) = 0 then 0 else (fvJ18_charAt_o [(h.1.1 a0 0), a1] h))
  | _ => 0
def fhJ16_charAt_rS : List Int → tH → tH := fun as h => h
theorem zJ16_charAt_rS : tZ fJ16_charAt_rS fgJ16_charAt_rS fvJ16_charAt_rS fhJ16_charAt_rS := fun as h hg => match as, hg with
  | [a0, a1], hg => by
    obtain ⟨v, h2, hF, rfl, rfl⟩ := wN.of (ks := [2, 0]) (nL := 2) (Bk := bkJ16_charAt_rS) (as := [a0, a1]) (h := h) (Q := fun v h2 => v = fvJ16_charAt_rS [a0, a1] h ∧ h2 = fhJ16_charAt_rS [a0, a1] h) (wR.step (have Ec0 : fvJ16_charAt_rS [a0, a1] h = (if (fvJ16_isLatin1_rS [a0] h) = 0 then 0 else (fvJ18_charAt_o [(h.1.1 a0 0), a1] h)) := rfl; (match hg with | ⟨g1, g2, g3, H8, H9⟩ => ⟨g1, g2, ⟨⟨g3, l32_0⟩, fun (c4 : (fvJ16_isLatin1_rS [a0] h) = 0) => have Ec4 := Ec0.trans (if_pos c4); (have H10 := (H8 c4); H10), fun (c4 : ¬ ((fvJ16_isLatin1_rS [a0] h) = 0)) => have Ec4 := Ec0.trans (if_neg c4); (match (H9 c4) with | ⟨g5, g6, g7⟩ => (show wR bkJ16_charAt_rS 7 [a0, a1] [] h _ from wR.step ⟨g1, ⟨g5, ⟨⟨g6, g7⟩, ⟨rfl, Ec4.symm, rfl⟩⟩⟩⟩))⟩⟩)))
    exact hF
  | [], hg => hg.elim
  | [_], hg => hg.elim
  | _ :: _ :: _ :: _, hg => hg.elim
def yJ7_signedHashCode : MethodName := ⟨RJ7, "signedHashCode", "(I[BII)I"⟩
abbrev cJ7_signedHashCode : ByteArray := prog_78_method_5_code
noncomputable def bJ7_signedHashCode_0 : tX := mx_load 2 (mx_load 3 (mx_bin f_addw (mx_store 4 (mx_load 2 (mx_store 5 (mx_go 8))))))
noncomputable def bJ7_signedHashCode_8 : tX := mx_load 5 (mx_load 4 (mi_ge (mx_go 35) (mx_go 15)))
noncomputable def bJ7_signedHashCode_15 : tX := mx_push 31 (mx_load 0 (mx_bin f_mulw (mx_load 1 (mx_load 5 (mx_ald 3 (mx_push 255 (mx_bin f_and (mx_bin f_addw (mx_store 0 (mx_go 29))))))))))
noncomputable def bJ7_signedHashCode_29 : tX := mx_iinc 5 1 (mx_go 8)
noncomputable def bJ7_signedHashCode_35 : tX := mx_load 0 (mx_ret)
noncomputable def tbJ7_signedHashCode : List tTe := [(0, ([(0, 0), (1, 2), (2, 0), (3, 0)], []), bJ7_signedHashCode_0), (8, ([(0, 0), (1, 2), (2, 0), (3, 0), (4, 0), (5, 0)], []), bJ7_signedHashCode_8), (15, ([(0, 0), (1, 2), (2, 0), (3, 0), (4, 0), (5, 0)], []), bJ7_signedHashCode_15), (29, ([(0, 0), (1, 2), (2, 0), (3, 0), (4, 0), (5, 0)], []), bJ7_signedHashCode_29), (35, ([(0, 0), (1, 2), (2, 0), (3, 0), (4, 0), (5, 0)], []), bJ7_signedHashCode_35)]
noncomputable def bkJ7_signedHashCode : Nat → tX := tBk tbJ7_signedHashCode
noncomputable def fJ7_signedHashCode : tFn := tFN [0, 2, 0, 0] 6 bkJ7_signedHashCode
noncomputable def eJ7_signedHashCode (D : tD) (b0 : Nat) : tM := (cJ7_signedHashCode, 6, RJ7, tTy tbJ7_signedHashCode, D, b0, 0, 0, some (.int), false, [])
noncomputable def opsJ7_signedHashCode : List tOpE := [(.iadd, 1, [0, 0], [0], mx_bin f_addw), (.bipush 31, 2, [], [0], mx_push 31), (.imul, 1, [0, 0], [0], mx_bin f_mulw), (.baload, 1, [0, 2], [0], mx_ald 3), (.sipush 255, 3, [], [0], mx_push 255), (.iand, 1, [0, 0], [0], mx_bin f_and)]
theorem okJ7_signedHashCode (D : tD) (b0 : Nat) : ∀ q ∈ opsJ7_signedHashCode, OpOK (eJ7_signedHashCode D b0) q := (List.forall_mem_cons.mpr ⟨opk_iaddw, (List.forall_mem_cons.mpr ⟨opk_bipush bp_31, (List.forall_mem_cons.mpr ⟨opk_imulw, (List.forall_mem_cons.mpr ⟨opk_bald, (List.forall_mem_cons.mpr ⟨opk_sipush sp_255, (List.forall_mem_cons.mpr ⟨opk_iand, (fun q hq => by cases hq)⟩)⟩)⟩)⟩)⟩)⟩)
theorem ckJ7_signedHashCode_0 : ckS (tBy cJ7_signedHashCode) opsJ7_signedHashCode 6 [(1, 2, 0), (1, 3, 0), (0, 0, 0), (2, 4, 0), (1, 2, 0), (2, 5, 0)] 0 [(0, 0), (1, 2), (2, 0), (3, 0)] [] = some (8, [(5, 0), (4, 0), (0, 0), (1, 2), (2, 0), (3, 0)], []) := by decide +kernel
theorem hsJ7_signedHashCode_0 (D : tD) (b0 : Nat) : tSx (eJ7_signedHashCode D b0) 0 [(0, 0), (1, 2), (2, 0), (3, 0)] [] bJ7_signedHashCode_0 := ckS_ok (E := eJ7_signedHashCode D b0) (T := mx_go 8) (okJ7_signedHashCode D b0) ckJ7_signedHashCode_0 (ms_at rfl rfl)
theorem ckJ7_signedHashCode_8 : ckS (tBy cJ7_signedHashCode) opsJ7_signedHashCode 6 [(1, 5, 0), (1, 4, 0)] 8 [(0, 0), (1, 2), (2, 0), (3, 0), (4, 0), (5, 0)] [] = some (12, [(0, 0), (1, 2), (2, 0), (3, 0), (4, 0), (5, 0)], [0, 0]) := by decide +kernel
theorem hsJ7_signedHashCode_8 (D : tD) (b0 : Nat) : tSx (eJ7_signedHashCode D b0) 8 [(0, 0), (1, 2), (2, 0), (3, 0), (4, 0), (5, 0)] [] bJ7_signedHashCode_8 := ckS_ok (E := eJ7_signedHashCode D b0) (T := mi_ge (mx_go 35) (mx_go 15)) (okJ7_signedHashCode D b0) ckJ7_signedHashCode_8 (ms_icmp_ge 35 (tDe (c := cJ7_signedHashCode) (pc := 12) (i := .if_icmp .ge 23) (n := 3) (by decide +kernel)) rfl (ms_at rfl rfl) (ms_at rfl rfl))
theorem ckJ7_signedHashCode_15 : ckS (tBy cJ7_signedHashCode) opsJ7_signedHashCode 6 [(0, 1, 0), (1, 0, 0), (0, 2, 0), (1, 1, 2), (1, 5, 0), (0, 3, 0), (0, 4, 0), (0, 5, 0), (0, 0, 0), (2, 0, 0)] 15 [(0, 0), (1, 2), (2, 0), (3, 0), (4, 0), (5, 0)] [] = some (29, [(0, 0), (1, 2), (2, 0), (3, 0), (4, 0), (5, 0)], []) := by decide +kernel
theorem hsJ7_signedHashCode_15 (D : tD) (b0 : Nat) : tSx (eJ7_signedHashCode D b0) 15 [(0, 0), (1, 2), (2, 0), (3, 0), (4, 0), (5, 0)] [] bJ7_signedHashCode_15 := ckS_ok (E := eJ7_signedHashCode D b0) (T := mx_go 29) (okJ7_signedHashCode D b0) ckJ7_signedHashCode_15 (ms_at rfl rfl)
theorem ckJ7_signedHashCode_29 : ckS (tBy cJ7_signedHashCode) opsJ7_signedHashCode 6 [(3, 5, 1)] 29 [(0, 0), (1, 2), (2, 0), (3, 0), (4, 0), (5, 0)] [] = some (32, [(5, 0), (0, 0), (1, 2), (2, 0), (3, 0), (4, 0)], []) := by decide +kernel
theorem hsJ7_signedHashCode_29 (D : tD) (b0 : Nat) : tSx (eJ7_signedHashCode D b0) 29 [(0, 0), (1, 2), (2, 0), (3, 0), (4, 0), (5, 0)] [] bJ7_signedHashCode_29 := ckS_ok (E := eJ7_signedHashCode D b0) (T := mx_go 8) (okJ7_signedHashCode D b0) ckJ7_signedHashCode_29 (ms_goto 8 (tDe (c := cJ7_signedHashCode) (pc := 32) (i := .goto (-24)) (n := 3) (by decide +kernel)) rfl (ms_at rfl rfl))
theorem ckJ7_signedHashCode_35 : ckS (tBy cJ7_signedHashCode) opsJ7_signedHashCode 6 [(1, 0, 0)] 35 [(0, 0), (1, 2), (2, 0), (3, 0), (4, 0), (5, 0)] [] = some (36, [(0, 0), (1, 2), (2, 0), (3, 0), (4, 0), (5, 0)], [0]) := by decide +kernel
theorem hsJ7_signedHashCode_35 (D : tD) (b0 : Nat) : tSx (eJ7_signedHashCode D b0) 35 [(0, 0), (1, 2), (2, 0), (3, 0), (4, 0), (5, 0)] [] bJ7_signedHashCode_35 := ckS_ok (E := eJ7_signedHashCode D b0) (T := mx_ret) (okJ7_signedHashCode D b0) ckJ7_signedHashCode_35 (ms_iret (tDe (c := cJ7_signedHashCode) (pc := 36) (i := .ireturn) (n := 1) (by decide +kernel)) rfl)
theorem sJ7_signedHashCode (D : tD) (b0 : Nat) : tMX D b0 yJ7_signedHashCode (ws_ yJ7_signedHashCode cJ7_signedHashCode 6 (some (.int))) (some (.int)) [0, 2, 0, 0] 0 0 fJ7_signedHashCode :=
  tMX.lim fun n => tMX.of n (te := tTy tbJ7_signedHashCode) (ini := false) pfJ7_signedHashCode (fun h => by cases h) (Nat.le_of_ble_eq_true rfl) rfl rfl (tTb (E := eJ7_signedHashCode D b0) rfl (List.forall_mem_cons.mpr ⟨hsJ7_signedHashCode_0 D b0, (List.forall_mem_cons.mpr ⟨hsJ7_signedHashCode_8 D b0, (List.forall_mem_cons.mpr ⟨hsJ7_signedHashCode_15 D b0, (List.forall_mem_cons.mpr ⟨hsJ7_signedHashCode_29 D b0, (List.forall_mem_cons.mpr ⟨hsJ7_signedHashCode_35 D b0, (fun q hq => by cases hq)⟩)⟩)⟩)⟩)⟩))
theorem vJ7_signedHashCode_0 {R : tQ2} (a0 a1 a2 a3 : Int) (h : tH) (hh : wR bkJ7_signedHashCode 8 [a0, a1, a2, a3, (f_addw a2 a3), a2] [] h R) : wF fJ7_signedHashCode [a0, a1, a2, a3] h R :=
  wF.of (wR.step (have H1 := hh; H1))
theorem vJ7_signedHashCode_8 {R : tQ2} (l0 l1 l2 l3 l4 l5 : Int) (h : tH) (hh : i32 l5 ∧ i32 l4 ∧ (l4 ≤ l5 → R (false, l0) h) ∧ (¬ (l4 ≤ l5) → h.2.2.1 l1 = 1003 ∧ 0 ≤ l5 ∧ l5 < h.2.1 l1 ∧ wR bkJ7_signedHashCode 8 [(f_addw (f_mulw 31 l0) (f_and (h.1.2 l1 l5) 255)), l1, l2, l3, l4, (l5 + 1)] [] h R)) : wR bkJ7_signedHashCode 8 [l0, l1, l2, l3, l4, l5] [] h R :=
  wR.step (match hh with | ⟨g1, g2, H7, H8⟩ => ⟨⟨g1, g2⟩, fun (c3 : l4 ≤ l5) => (have H9 := (H7 c3); (show wR bkJ7_signedHashCode 35 [l0, l1, l2, l3, l4, l5] [] h _ from wR.step H9)), fun (c3 : ¬ (l4 ≤ l5)) => (match (H8 c3) with | ⟨g4, g5, g6, H10⟩ => (show wR bkJ7_signedHashCode 15 [l0, l1, l2, l3, l4, l5] [] h _ from wR.step ⟨⟨g4, g5, g6⟩, (show wR bkJ7_signedHashCode 29 [(f_addw (f_mulw 31 l0) (f_and (h.1.2 l1 l5) 255)), l1, l2, l3, l4, l5] [] h _ from wR.step H10)⟩))⟩)
def yJ7_vectorizedHashCode : MethodName := ⟨RJ7, "vectorizedHashCode", "(Ljava/lang/Object;IIII)I"⟩
abbrev cJ7_vectorizedHashCode : ByteArray := prog_78_method_4_code
noncomputable def bJ7_vectorizedHashCode_0 : tX := mx_load 4 (mx_sw fun x => (tSel [(4, 44, (mx_go 44)), (5, 57, mx_none), (6, 129, mx_none), (7, 129, mx_none), (8, 90, mx_none), (9, 103, mx_none), (10, 116, mx_none)] (129, mx_none) x).2)
noncomputable def bJ7_vectorizedHashCode_44 : tX := mx_load 3 (mx_load 0 (mx_cast 1003 (mx_load 1 (mx_load 2 (mx_callN fJ7_signedHashCode 4 (mx_go 157))))))
noncomputable def bJ7_vectorizedHashCode_157 : tX := mx_ret
noncomputable def tbJ7_vectorizedHashCode : List tTe := [(0, ([(0, 2), (1, 0), (2, 0), (3, 0), (4, 0)], []), bJ7_vectorizedHashCode_0), (44, ([(0, 2), (1, 0), (2, 0), (3, 0), (4, 0)], []), bJ7_vectorizedHashCode_44), (157, ([(0, 2), (1, 0), (2, 0), (3, 0), (4, 0)], [0]), bJ7_vectorizedHashCode_157)]
noncomputable def bkJ7_vectorizedHashCode : Nat → tX := tBk tbJ7_vectorizedHashCode
noncomputable def fJ7_vectorizedHashCode : tFn := tFN [2, 0, 0, 0, 0] 5 bkJ7_vectorizedHashCode
noncomputable def eJ7_vectorizedHashCode (D : tD) (b0 : Nat) : tM := (cJ7_vectorizedHashCode, 5, RJ7, tTy tbJ7_vectorizedHashCode, D, b0, 1, 49, some (.int), false, [])
noncomputable def opsJ7_vectorizedHashCode : List tOpE := [(.checkcast 60, 3, [2], [2], mx_cast 1003), (.invokestatic 62, 3, [0, 0, 2, 0], [0], mx_callN fJ7_signedHashCode 4)]
theorem okJ7_vectorizedHashCode (D : tD) (b0 : Nat) : ∀ q ∈ opsJ7_vectorizedHashCode, OpOK (eJ7_vectorizedHashCode D b0) q := (List.forall_mem_cons.mpr ⟨(fun pc lt ts K hd hst hK => ms_cast 1003 (Or.inr ⟨3, _, (Nat.le_of_ble_eq_true rfl), rfl, rfl⟩) t_castB q2481 hd hK), (List.forall_mem_cons.mpr ⟨(fun pc lt ts K hd hst hK => ms_callSN [0, 2, 0, 0] ts (sJ7_signedHashCode D b0) q2482 q2483 q221 q2484 hcJ7 pd__pI_aBII_qI (Nat.le_of_ble_eq_true rfl) (Nat.le_trans (Nat.add_le_add_right (Nat.add_le_add_right hst _) _) (Nat.le_of_ble_eq_true rfl)) rfl rfl rfl rfl hd hK), (fun q hq => by cases hq)⟩)⟩)
theorem ckJ7_vectorizedHashCode_0 : ckS (tBy cJ7_vectorizedHashCode) opsJ7_vectorizedHashCode 5 [(1, 4, 0)] 0 [(0, 2), (1, 0), (2, 0), (3, 0), (4, 0)] [] = some (2, [(0, 2), (1, 0), (2, 0), (3, 0), (4, 0)], [0]) := by decide +kernel
theorem hsJ7_vectorizedHashCode_0 (D : tD) (b0 : Nat) : tSx (eJ7_vectorizedHashCode D b0) 0 [(0, 2), (1, 0), (2, 0), (3, 0), (4, 0)] [] bJ7_vectorizedHashCode_0 := ckS_ok (E := eJ7_vectorizedHashCode D b0) (T := mx_sw fun x => (tSel [(4, 44, (mx_go 44)), (5, 57, mx_none), (6, 129, mx_none), (7, 129, mx_none), (8, 90, mx_none), (9, 103, mx_none), (10, 116, mx_none)] (129, mx_none) x).2) (okJ7_vectorizedHashCode D b0) ckJ7_vectorizedHashCode_0 (ms_tsw [(4, 44, (mx_go 44)), (5, 57, mx_none), (6, 129, mx_none), (7, 129, mx_none), (8, 90, mx_none), (9, 103, mx_none), (10, 116, mx_none)] (129, mx_none) (by decide +kernel : decode cJ7_vectorizedHashCode 2 = .ok (.tableswitch 127 4 10 #[42, 55, 127, 127, 88, 101, 114], 42)) ⟨rfl, rfl, ⟨rfl, rfl, ⟨rfl, rfl, ⟨rfl, rfl, ⟨rfl, rfl, ⟨rfl, rfl, ⟨rfl, rfl, rfl⟩⟩⟩⟩⟩⟩⟩ rfl rfl (List.forall_mem_cons.mpr ⟨(ms_at rfl rfl), (List.forall_mem_cons.mpr ⟨ms_none, (List.forall_mem_cons.mpr ⟨ms_none, (List.forall_mem_cons.mpr ⟨ms_none, (List.forall_mem_cons.mpr ⟨ms_none, (List.forall_mem_cons.mpr ⟨ms_none, (List.forall_mem_cons.mpr ⟨ms_none, (fun q hq => by cases hq)⟩)⟩)⟩)⟩)⟩)⟩)⟩) ms_none)
theorem ckJ7_vectorizedHashCode_44 : ckS (tBy cJ7_vectorizedHashCode) opsJ7_vectorizedHashCode 5 [(1, 3, 0), (1, 0, 2), (0, 0, 0), (1, 1, 0), (1, 2, 0), (0, 1, 0)] 44 [(0, 2), (1, 0), (2, 0), (3, 0), (4, 0)] [] = some (54, [(0, 2), (1, 0), (2, 0), (3, 0), (4, 0)], [0]) := by decide +kernel
theorem hsJ7_vectorizedHashCode_44 (D : tD) (b0 : Nat) : tSx (eJ7_vectorizedHashCode D b0) 44 [(0, 2), (1, 0), (2, 0), (3, 0), (4, 0)] [] bJ7_vectorizedHashCode_44 := ckS_ok (E := eJ7_vectorizedHashCode D b0) (T := mx_go 157) (okJ7_vectorizedHashCode D b0) ckJ7_vectorizedHashCode_44 (ms_goto 157 (tDe (c := cJ7_vectorizedHashCode) (pc := 54) (i := .goto 103) (n := 3) (by decide +kernel)) rfl (ms_at rfl rfl))
theorem hsJ7_vectorizedHashCode_157 (D : tD) (b0 : Nat) : tSx (eJ7_vectorizedHashCode D b0) 157 [(0, 2), (1, 0), (2, 0), (3, 0), (4, 0)] [0] bJ7_vectorizedHashCode_157 := (ms_iret (tDe (c := cJ7_vectorizedHashCode) (pc := 157) (i := .ireturn) (n := 1) (by decide +kernel)) rfl)
theorem sJ7_vectorizedHashCode (D : tD) (b0 : Nat) : tMX D b0 yJ7_vectorizedHashCode (ws_ yJ7_vectorizedHashCode cJ7_vectorizedHashCode 5 (some (.int))) (some (.int)) [2, 0, 0, 0, 0] 1 49 fJ7_vectorizedHashCode :=
  tMX.lim fun n => tMX.of n (te := tTy tbJ7_vectorizedHashCode) (ini := false) pfJ7_vectorizedHashCode (fun h => by cases h) (Nat.le_of_ble_eq_true rfl) rfl rfl (tTb (E := eJ7_vectorizedHashCode D b0) rfl (List.forall_mem_cons.mpr ⟨hsJ7_vectorizedHashCode_0 D b0, (List.forall_mem_cons.mpr ⟨hsJ7_vectorizedHashCode_44 D b0, (List.forall_mem_cons.mpr ⟨hsJ7_vectorizedHashCode_157 D b0, (fun q hq => by cases hq)⟩)⟩)⟩))
theorem vJ7_vectorizedHashCode_0 {R : tQ2} (a0 a1 a2 a3 a4 : Int) (h : tH) (hh : i32 a4 ∧ (a4 = 4 → h.2.2.1 a0 = 1003 ∧ wN fJ7_signedHashCode [a3, a0, a1, a2] h (fun v5 h4 => R (false, v5) h4)) ∧ (¬ (a4 = 4) → (a4 = 5 → False) ∧ (¬ (a4 = 5) → (a4 = 6 → False) ∧ (¬ (a4 = 6) → (a4 = 7 → False) ∧ (¬ (a4 = 7) → (a4 = 8 → False) ∧ (¬ (a4 = 8) → (a4 = 9 → False) ∧ (¬ (a4 = 9) → (a4 = 10 → False) ∧ (¬ (a4 = 10) → False)))))))) : wF fJ7_vectorizedHashCode [a0, a1, a2, a3, a4] h R :=
  wF.of (wR.step (match hh with | ⟨g1, H13⟩ => ⟨g1, (match H13 with | ⟨H14, H15⟩ => tSel_p ⟨fun (c2 : a4 = 4) => (match (H14 c2) with | ⟨g3, H16⟩ => (show wR bkJ7_vectorizedHashCode 44 [a0, a1, a2, a3, a4] [] h _ from wR.step ⟨g3, (H16.mono (fun v5 h4 H6 => (have H17 := H6; (show wR bkJ7_vectorizedHashCode 157 [a0, a1, a2, a3, a4] [v5] h4 _ from wR.step H17))))⟩)), fun (c2 : ¬ (a4 = 4)) => (match (H15 c2) with | ⟨H18, H19⟩ => tSel_p ⟨fun (c7 : a4 = 5) => (have H20 := (H18 c7); H20), fun (c7 : ¬ (a4 = 5)) => (match (H19 c7) with | ⟨H21, H22⟩ => tSel_p ⟨fun (c8 : a4 = 6) => (have H23 := (H21 c8); H23), fun (c8 : ¬ (a4 = 6)) => (match (H22 c8) with | ⟨H24, H25⟩ => tSel_p ⟨fun (c9 : a4 = 7) => (have H26 := (H24 c9); H26), fun (c9 : ¬ (a4 = 7)) => (match (H25 c9) with | ⟨H27, H28⟩ => tSel_p ⟨fun (c10 : a4 = 8) => (have H29 := (H27 c10); H29), fun (c10 : ¬ (a4 = 8)) => (match (H28 c10) with | ⟨H30, H31⟩ => tSel_p ⟨fun (c11 : a4 = 9) => (have H32 := (H30 c11); H32), fun (c11 : ¬ (a4 = 9)) => (match (H31 c11) with | ⟨H33, H34⟩ => tSel_p ⟨fun (c12 : a4 = 10) => (have H35 := (H33 c12); H35), fun (c12 : ¬ (a4 = 10)) => (have H36 := (H34 c12); H36)⟩)⟩)⟩)⟩)⟩)⟩)⟩)⟩))
def yJ18_hashCode : MethodName := ⟨RJ18, "hashCode", "([B)I"⟩
abbrev cJ18_hashCode : ByteArray := prog_61_method_21_code
noncomputable def bJ18_hashCode_0 : tX := mx_load 0 (mx_alen 3 (mx_sw fun x => (tSel [(0, 28, (mx_go 28)), (1, 32, (mx_go 32))] (42, (mx_go 42)) x).2))
noncomputable def bJ18_hashCode_28 : tX := mx_push 0 (mx_go 51)
noncomputable def bJ18_hashCode_32 : tX := mx_load 0 (mx_push 0 (mx_ald 3 (mx_push 255 (mx_bin f_and (mx_go 51)))))
noncomputable def bJ18_hashCode_42 : tX := mx_load 0 (mx_push 0 (mx_load 0 (mx_alen 3 (mx_push 0 (mx_push 4 (mx_callN fJ7_vectorizedHashCode 5 (mx_go 51)))))))
noncomputable def bJ18_hashCode_51 : tX := mx_ret
noncomputable def tbJ18_hashCode : List tTe := [(0, ([(0, 2)], []), bJ18_hashCode_0), (28, ([(0, 2)], []), bJ18_hashCode_28), (32, ([(0, 2)], []), bJ18_hashCode_32), (42, ([(0, 2)], []), bJ18_hashCode_42), (51, ([(0, 2)], [0]), bJ18_hashCode_51)]
noncomputable def bkJ18_hashCode : Nat → tX := tBk tbJ18_hashCode
noncomputable def fJ18_hashCode : tFn := tFN [2] 1 bkJ18_hashCode
noncomputable def eJ18_hashCode (D : tD) (b0 : Nat) : tM := (cJ18_hashCode, 1, RJ18, tTy tbJ18_hashCode, D, b0, 2, 97, some (.int), false, [])
noncomputable def opsJ18_hashCode : List tOpE := [(.arraylength, 1, [2], [0], mx_alen 3), (.iconst 0, 1, [], [0], mx_push 0), (.baload, 1, [0, 2], [0], mx_ald 3), (.sipush 255, 3, [], [0], mx_push 255), (.iand, 1, [0, 0], [0], mx_bin f_and), (.iconst 4, 1, [], [0], mx_push 4), (.invokestatic 84, 3, [0, 0, 0, 0, 2], [0], mx_callN fJ7_vectorizedHashCode 5)]
theorem okJ18_hashCode (D : tD) (b0 : Nat) : ∀ q ∈ opsJ18_hashCode, OpOK (eJ18_hashCode D b0) q := (List.forall_mem_cons.mpr ⟨opk_alen 3 (Nat.le_of_ble_eq_true rfl) rfl, (List.forall_mem_cons.mpr ⟨opk_iconst 0, (List.forall_mem_cons.mpr ⟨opk_bald, (List.forall_mem_cons.mpr ⟨opk_sipush sp_255, (List.forall_mem_cons.mpr ⟨opk_iand, (List.forall_mem_cons.mpr ⟨opk_iconst 4, (List.forall_mem_cons.mpr ⟨(fun pc lt ts K hd hst hK => ms_callSN [2, 0, 0, 0, 0] ts (sJ7_vectorizedHashCode D b0) q2478 q2479 q221 q2480 hcJ7 pd__pLjava_slang_sObject_cIIII_qI (Nat.le_of_ble_eq_true rfl) (Nat.le_trans (Nat.add_le_add_right (Nat.add_le_add_right hst _) _) (Nat.le_of_ble_eq_true rfl)) rfl rfl rfl rfl hd hK), (fun q hq => by cases hq)⟩)⟩)⟩)⟩)⟩)⟩)⟩)
theorem ckJ18_hashCode_0 : ckS (tBy cJ18_hashCode) opsJ18_hashCode 1 [(1, 0, 2), (0, 0, 0)] 0 [(0, 2)] [] = some (2, [(0, 2)], [0]) := by decide +kernel
theorem hsJ18_hashCode_0 (D : tD) (b0 : Nat) : tSx (eJ18_hashCode D b0) 0 [(0, 2)] [] bJ18_hashCode_0 := ckS_ok (E := eJ18_hashCode D b0) (T := mx_sw fun x => (tSel [(0, 28, (mx_go 28)), (1, 32, (mx_go 32))] (42, (mx_go 42)) x).2) (okJ18_hashCode D b0) ckJ18_hashCode_0 (ms_lsw [(0, 28, (mx_go 28)), (1, 32, (mx_go 32))] (42, (mx_go 42)) (by decide +kernel : decode cJ18_hashCode 2 = .ok (.lookupswitch 40 #[(0, 26), (1, 30)], 26)) (by decide +kernel) rfl rfl (List.forall_mem_cons.mpr ⟨(ms_at rfl rfl), (List.forall_mem_cons.mpr ⟨(ms_at rfl rfl), (fun q hq => by cases hq)⟩)⟩) (ms_at rfl rfl))
theorem ckJ18_hashCode_28 : ckS (tBy cJ18_hashCode) opsJ18_hashCode 1 [(0, 1, 0)] 28 [(0, 2)] [] = some (29, [(0, 2)], [0]) := by decide +kernel
theorem hsJ18_hashCode_28 (D : tD) (b0 : Nat) : tSx (eJ18_hashCode D b0) 28 [(0, 2)] [] bJ18_hashCode_28 := ckS_ok (E := eJ18_hashCode D b0) (T := mx_go 51) (okJ18_hashCode D b0) ckJ18_hashCode_28 (ms_goto 51 (tDe (c := cJ18_hashCode) (pc := 29) (i := .goto 22) (n := 3) (by decide +kernel)) rfl (ms_at rfl rfl))
theorem ckJ18_hashCode_32 : ckS (tBy cJ18_hashCode) opsJ18_hashCode 1 [(1, 0, 2), (0, 1, 0), (0, 2, 0), (0, 3, 0), (0, 4, 0)] 32 [(0, 2)] [] = some (39, [(0, 2)], [0]) := by decide +kernel
theorem hsJ18_hashCode_32 (D : tD) (b0 : Nat) : tSx (eJ18_hashCode D b0) 32 [(0, 2)] [] bJ18_hashCode_32 := ckS_ok (E := eJ18_hashCode D b0) (T := mx_go 51) (okJ18_hashCode D b0) ckJ18_hashCode_32 (ms_goto 51 (tDe (c := cJ18_hashCode) (pc := 39) (i := .goto 12) (n := 3) (by decide +kernel)) rfl (ms_at rfl rfl))
theorem ckJ18_hashCode_42 : ckS (tBy cJ18_hashCode) opsJ18_hashCode 1 [(1, 0, 2), (0, 1, 0), (1, 0, 2), (0, 0, 0), (0, 1, 0), (0, 5, 0), (0, 6, 0)] 42 [(0, 2)] [] = some (51, [(0, 2)], [0]) := by decide +kernel
theorem hsJ18_hashCode_42 (D : tD) (b0 : Nat) : tSx (eJ18_hashCode D b0) 42 [(0, 2)] [] bJ18_hashCode_42 := ckS_ok (E := eJ18_hashCode D b0) (T := mx_go 51) (okJ18_hashCode D b0) ckJ18_hashCode_42 (ms_at rfl rfl)
theorem hsJ18_hashCode_51 (D : tD) (b0 : Nat) : tSx (eJ18_hashCode D b0) 51 [(0, 2)] [0] bJ18_hashCode_51 := (ms_iret (tDe (c := cJ18_hashCode) (pc := 51) (i := .ireturn) (n := 1) (by decide +kernel)) rfl)
theorem sJ18_hashCode (D : tD) (b0 : Nat) : tMX D b0 yJ18_hashCode (ws_ yJ18_hashCode cJ18_hashCode 1 (some (.int))) (some (.int)) [2] 2 97 fJ18_hashCode :=
  tMX.lim fun n => tMX.of n (te := tTy tbJ18_hashCode) (ini := false) pfJ18_hashCode (fun h => by cases h) (Nat.le_of_ble_eq_true rfl) rfl rfl (tTb (E := eJ18_hashCode D b0) rfl (List.forall_mem_cons.mpr ⟨hsJ18_hashCode_0 D b0, (List.forall_mem_cons.mpr ⟨hsJ18_hashCode_28 D b0, (List.forall_mem_cons.mpr ⟨hsJ18_hashCode_32 D b0, (List.forall_mem_cons.mpr ⟨hsJ18_hashCode_42 D b0, (List.forall_mem_cons.mpr ⟨hsJ18_hashCode_51 D b0, (fun q hq => by cases hq)⟩)⟩)⟩)⟩)⟩))
theorem vJ18_hashCode_0 {R : tQ2} (a0 : Int) (h : tH) (hh : h.2.2.1 a0 = 1003 ∧ i32 (h.2.1 a0) ∧ ((h.2.1 a0) = 0 → R (false, 0) h) ∧ (¬ ((h.2.1 a0) = 0) → ((h.2.1 a0) = 1 → 0 < h.2.1 a0 ∧ R (false, (f_and (h.1.2 a0 0) 255)) h) ∧ (¬ ((h.2.1 a0) = 1) → wN fJ7_vectorizedHashCode [a0, 0, (h.2.1 a0), 0, 4] h (fun v7 h6 => R (false, v7) h6)))) : wF fJ18_hashCode [a0] h R :=
  wF.of (wR.step (match hh with | ⟨g1, g2, H9⟩ => ⟨g1, ⟨g2, (match H9 with | ⟨H10, H11⟩ => tSel_p ⟨fun (c3 : (h.2.1 a0) = 0) => (have H12 := (H10 c3); (show wR bkJ18_hashCode 28 [a0] [] h _ from wR.step (show wR bkJ18_hashCode 51 [a0] [0] h _ from wR.step H12))), fun (c3 : ¬ ((h.2.1 a0) = 0)) => (match (H11 c3) with | ⟨H13, H14⟩ => tSel_p ⟨fun (c4 : (h.2.1 a0) = 1) => (match (H13 c4) with | ⟨g5, H15⟩ => (show wR bkJ18_hashCode 32 [a0] [] h _ from wR.step ⟨⟨g1, (by decide), g5⟩, (show wR bkJ18_hashCode 51 [a0] [(f_and (h.1.2 a0 0) 255)] h _ from wR.step H15)⟩)), fun (c4 : ¬ ((h.2.1 a0) = 1)) => (have H16 := (H14 c4); (show wR bkJ18_hashCode 42 [a0] [] h _ from wR.step ⟨g1, (H16.mono (fun v7 h6 H8 => (have H17 := H8; (show wR bkJ18_hashCode 51 [a0] [v7] h6 _ from wR.step H17))))⟩))⟩)⟩)⟩⟩))
def yJ16_hashCode : MethodName := ⟨RJ16, "hashCode", "()I"⟩
abbrev cJ16_hashCode : ByteArray := prog_59_method_78_code
noncomputable def bJ16_hashCode_0 : tX := mx_load 0 (mx_getf 46 2 (mx_store 1 (mx_load 1 (mx_push 0 (mi_ne (mx_go 58) (mx_go 9))))))
noncomputable def bJ16_hashCode_9 : tX := mx_load 0 (mx_getf 46 3 (mx_push 0 (mi_ne (mx_go 58) (mx_go 16))))
noncomputable def bJ16_hashCode_16 : tX := mx_load 0 (mv_callZ 46 fJ16_isLatin1 zJ16_isLatin1 1 (mx_push 0 (mi_eq mx_none (mx_go 23))))
noncomputable def bJ16_hashCode_23 : tX := mx_load 0 (mx_getf 46 0 (mx_callN fJ18_hashCode 1 (mx_go 40)))
noncomputable def bJ16_hashCode_40 : tX := mx_store 1 (mx_load 1 (mx_push 0 (mi_ne (mx_go 53) (mx_go 45))))
noncomputable def bJ16_hashCode_45 : tX := mx_load 0 (mx_push 1 (mx_putfz 46 3 (fun v h => decide_eq_true h) (mx_go 58)))
noncomputable def bJ16_hashCode_53 : tX := mx_load 0 (mx_load 1 (mx_putf 46 2 (fun _ => rfl) (mx_go 58)))
noncomputable def bJ16_hashCode_58 : tX := mx_load 1 (mx_ret)
noncomputable def tbJ16_hashCode : List tTe := [(0, ([(0, 2)], []), bJ16_hashCode_0), (9, ([(0, 2), (1, 0)], []), bJ16_hashCode_9), (16, ([(0, 2), (1, 0)], []), bJ16_hashCode_16), (23, ([(0, 2), (1, 0)], []), bJ16_hashCode_23), (40, ([(0, 2), (1, 0)], [0]), bJ16_hashCode_40), (45, ([(0, 2), (1, 0)], []), bJ16_hashCode_45), (53, ([(0, 2), (1, 0)], []), bJ16_hashCode_53), (58, ([(0, 2), (1, 0)], []), bJ16_hashCode_58)]
noncomputable def bkJ16_hashCode : Nat → tX := tBk tbJ16_hashCode
noncomputable def fJ16_hashCode : tFn := tFN [2] 2 bkJ16_hashCode
noncomputable def eJ16_hashCode (D : tD) (b0 : Nat) : tM := (cJ16_hashCode, 2, RJ16, tTy tbJ16_hashCode, D, b0, 3, 141, some (.int), false, [])
noncomputable def opsJ16_hashCode : List tOpE := [(.getfield 19, 3, [2], [0], mx_getf 46 2), (.getfield 23, 3, [2], [0], mx_getf 46 3), (.invokevirtual 492, 3, [2], [0], mv_callZ 46 fJ16_isLatin1 zJ16_isLatin1 1), (.getfield 9, 3, [2], [2], mx_getf 46 0), (.invokestatic 628, 3, [2], [0], mx_callN fJ18_hashCode 1), (.iconst 1, 1, [], [0], mx_push 1), (.putfield 23, 3, [0, 2], [], mx_putfz 46 3 (fun v h => decide_eq_true h)), (.putfield 19, 3, [0, 2], [], mx_putf 46 2 (fun _ => rfl))]
theorem okJ16_hashCode (D : tD) (b0 : Nat) : ∀ q ∈ opsJ16_hashCode, OpOK (eJ16_hashCode D b0) q := (List.forall_mem_cons.mpr ⟨opk_getf 46 2 0 rfl (Nat.le_of_ble_eq_true rfl) (Nat.le_of_ble_eq_true rfl) q2418 (Or.inl rfl) rfl, (List.forall_mem_cons.mpr ⟨opk_getf 46 3 0 rfl (Nat.le_of_ble_eq_true rfl) (Nat.le_of_ble_eq_true rfl) q2419 (Or.inl rfl) rfl, (List.forall_mem_cons.mpr ⟨(fun pc lt ts K hd hst hK => ms_callVZ (hz := zJ16_isLatin1) 46 [] ts (sJ16_isLatin1 D b0) (Nat.le_of_ble_eq_true rfl) rfl q2441 q2442 q2443 q238 q2444 hcJ16 pd__p_qZ (Nat.le_of_ble_eq_true rfl) (Nat.le_trans (Nat.add_le_add_right (Nat.add_le_add_right hst _) _) (Nat.le_of_ble_eq_true rfl)) rfl rfl rfl rfl hd hK), (List.forall_mem_cons.mpr ⟨opk_getf 46 0 2 rfl (Nat.le_of_ble_eq_true rfl) (Nat.le_of_ble_eq_true rfl) q2416 (Or.inl rfl) rfl, (List.forall_mem_cons.mpr ⟨(fun pc lt ts K hd hst hK => ms_callSN [2] ts (sJ18_hashCode D b0) q2475 q2476 q240 q2477 hcJ18 pd__p_aB_qI (Nat.le_of_ble_eq_true rfl) (Nat.le_trans (Nat.add_le_add_right (Nat.add_le_add_right hst _) _) (Nat.le_of_ble_eq_true rfl)) rfl rfl rfl rfl hd hK), (List.forall_mem_cons.mpr ⟨opk_iconst 1, (List.forall_mem_cons.mpr ⟨opk_putfz 46 3 0 rfl (Nat.le_of_ble_eq_true rfl) (Nat.le_of_ble_eq_true rfl) q2419 (Or.inl rfl) (Or.inl rfl) rfl, (List.forall_mem_cons.mpr ⟨opk_putf 46 2 0 rfl (Nat.le_of_ble_eq_true rfl) (Nat.le_of_ble_eq_true rfl) q2418 (Or.inl rfl) (Or.inl rfl) rfl, (fun q hq => by cases hq)⟩)⟩)⟩)⟩)⟩)⟩)⟩)⟩)
theorem ckJ16_hashCode_0 : ckS (tBy cJ16_hashCode) opsJ16_hashCode 2 [(1, 0, 2), (0, 0, 0), (2, 1, 0), (1, 1, 0)] 0 [(0, 2)] [] = some (6, [(1, 0), (0, 2)], [0]) := by decide +kernel
theorem hsJ16_hashCode_0 (D : tD) (b0 : Nat) : tSx (eJ16_hashCode D b0) 0 [(0, 2)] [] bJ16_hashCode_0 := ckS_ok (E := eJ16_hashCode D b0) (T := mx_push 0 (mi_ne (mx_go 58) (mx_go 9))) (okJ16_hashCode D b0) ckJ16_hashCode_0 (ms_if_ne 58 (tDe (c := cJ16_hashCode) (pc := 6) (i := .ifCond .ne 52) (n := 3) (by decide +kernel)) rfl (ms_at rfl rfl) (ms_at rfl rfl))
theorem ckJ16_hashCode_9 : ckS (tBy cJ16_hashCode) opsJ16_hashCode 2 [(1, 0, 2), (0, 1, 0)] 9 [(0, 2), (1, 0)] [] = some (13, [(0, 2), (1, 0)], [0]) := by decide +kernel
theorem hsJ16_hashCode_9 (D : tD) (b0 : Nat) : tSx (eJ16_hashCode D b0) 9 [(0, 2), (1, 0)] [] bJ16_hashCode_9 := ckS_ok (E := eJ16_hashCode D b0) (T := mx_push 0 (mi_ne (mx_go 58) (mx_go 16))) (okJ16_hashCode D b0) ckJ16_hashCode_9 (ms_if_ne 58 (tDe (c := cJ16_hashCode) (pc := 13) (i := .ifCond .ne 45) (n := 3) (by decide +kernel)) rfl (ms_at rfl rfl) (ms_at rfl rfl))
theorem ckJ16_hashCode_16 : ckS (tBy cJ16_hashCode) opsJ16_hashCode 2 [(1, 0, 2), (0, 2, 0)] 16 [(0, 2), (1, 0)] [] = some (20, [(0, 2), (1, 0)], [0]) := by decide +kernel
theorem hsJ16_hashCode_16 (D : tD) (b0 : Nat) : tSx (eJ16_hashCode D b0) 16 [(0, 2), (1, 0)] [] bJ16_hashCode_16 := ckS_ok (E := eJ16_hashCode D b0) (T := mx_push 0 (mi_eq mx_none (mx_go 23))) (okJ16_hashCode D b0) ckJ16_hashCode_16 (ms_if_eq 33 (tDe (c := cJ16_hashCode) (pc := 20) (i := .ifCond .eq 13) (n := 3) (by decide +kernel)) rfl ms_none (ms_at rfl rfl))
theorem ckJ16_hashCode_23 : ckS (tBy cJ16_hashCode) opsJ16_hashCode 2 [(1, 0, 2), (0, 3, 0), (0, 4, 0)] 23 [(0, 2), (1, 0)] [] = some (30, [(0, 2), (1, 0)], [0]) := by decide +kernel
theorem hsJ16_hashCode_23 (D : tD) (b0 : Nat) : tSx (eJ16_hashCode D b0) 23 [(0, 2), (1, 0)] [] bJ16_hashCode_23 := ckS_ok (E := eJ16_hashCode D b0) (T := mx_go 40) (okJ16_hashCode D b0) ckJ16_hashCode_23 (ms_goto 40 (tDe (c := cJ16_hashCode) (pc := 30) (i := .goto 10) (n := 3) (by decide +kernel)) rfl (ms_at rfl rfl))
theorem ckJ16_hashCode_40 : ckS (tBy cJ16_hashCode) opsJ16_hashCode 2 [(2, 1, 0), (1, 1, 0)] 40 [(0, 2), (1, 0)] [0] = some (42, [(1, 0), (0, 2)], [0]) := by decide +kernel
theorem hsJ16_hashCode_40 (D : tD) (b0 : Nat) : tSx (eJ16_hashCode D b0) 40 [(0, 2), (1, 0)] [0] bJ16_hashCode_40 := ckS_ok (E := eJ16_hashCode D b0) (T := mx_push 0 (mi_ne (mx_go 53) (mx_go 45))) (okJ16_hashCode D b0) ckJ16_hashCode_40 (ms_if_ne 53 (tDe (c := cJ16_hashCode) (pc := 42) (i := .ifCond .ne 11) (n := 3) (by decide +kernel)) rfl (ms_at rfl rfl) (ms_at rfl rfl))
theorem ckJ16_hashCode_45 : ckS (tBy cJ16_hashCode) opsJ16_hashCode 2 [(1, 0, 2), (0, 5, 0), (0, 6, 0)] 45 [(0, 2), (1, 0)] [] = some (50, [(0, 2), (1, 0)], []) := by decide +kernel
theorem hsJ16_hashCode_45 (D : tD) (b0 : Nat) : tSx (eJ16_hashCode D b0) 45 [(0, 2), (1, 0)] [] bJ16_hashCode_45 := ckS_ok (E := eJ16_hashCode D b0) (T := mx_go 58) (okJ16_hashCode D b0) ckJ16_hashCode_45 (ms_goto 58 (tDe (c := cJ16_hashCode) (pc := 50) (i := .goto 8) (n := 3) (by decide +kernel)) rfl (ms_at rfl rfl))
theorem ckJ16_hashCode_53 : ckS (tBy cJ16_hashCode) opsJ16_hashCode 2 [(1, 0, 2), (1, 1, 0), (0, 7, 0)] 53 [(0, 2), (1, 0)] [] = some (58, [(0, 2), (1, 0)], []) := by decide +kernel
theorem hsJ16_hashCode_53 (D : tD) (b0 : Nat) : tSx (eJ16_hashCode D b0) 53 [(0, 2), (1, 0)] [] bJ16_hashCode_53 := ckS_ok (E := eJ16_hashCode D b0) (T := mx_go 58) (okJ16_hashCode D b0) ckJ16_hashCode_53 (ms_at rfl rfl)
theorem ckJ16_hashCode_58 : ckS (tBy cJ16_hashCode) opsJ16_hashCode 2 [(1, 1, 0)] 58 [(0, 2), (1, 0)] [] = some (59, [(0, 2), (1, 0)], [0]) := by decide +kernel
theorem hsJ16_hashCode_58 (D : tD) (b0 : Nat) : tSx (eJ16_hashCode D b0) 58 [(0, 2), (1, 0)] [] bJ16_hashCode_58 := ckS_ok (E := eJ16_hashCode D b0) (T := mx_ret) (okJ16_hashCode D b0) ckJ16_hashCode_58 (ms_iret (tDe (c := cJ16_hashCode) (pc := 59) (i := .ireturn) (n := 1) (by decide +kernel)) rfl)
theorem sJ16_hashCode (D : tD) (b0 : Nat) : tMX D b0 yJ16_hashCode (ws_ yJ16_hashCode cJ16_hashCode 2 (some (.int))) (some (.int)) [2] 3 141 fJ16_hashCode :=
  tMX.lim fun n => tMX.of n (te := tTy tbJ16_hashCode) (ini := false) pfJ16_hashCode (fun h => by cases h) (Nat.le_of_ble_eq_true rfl) rfl rfl (tTb (E := eJ16_hashCode D b0) rfl (List.forall_mem_cons.mpr ⟨hsJ16_hashCode_0 D b0, (List.forall_mem_cons.mpr ⟨hsJ16_hashCode_9 D b0, (List.forall_mem_cons.mpr ⟨hsJ16_hashCode_16 D b0, (List.forall_mem_cons.mpr ⟨hsJ16_hashCode_23 D b0, (List.forall_mem_cons.mpr ⟨hsJ16_hashCode_40 D b0, (List.forall_mem_cons.mpr ⟨hsJ16_hashCode_45 D b0, (List.forall_mem_cons.mpr ⟨hsJ16_hashCode_53 D b0, (List.forall_mem_cons.mpr ⟨hsJ16_hashCode_58 D b0, (fun q hq => by cases hq)⟩)⟩)⟩)⟩)⟩)⟩)⟩)⟩))
theorem vJ16_hashCode_0 {R : tQ2} (a0 : Int) (h : tH) (hh : h.2.2.1 a0 = 46 ∧ i32 (h.1.1 a0 2) ∧ (¬ (h.1.1 a0 2) = 0 → R (false, (h.1.1 a0 2)) h) ∧ (¬ (¬ (h.1.1 a0 2) = 0) → i32 (h.1.1 a0 3) ∧ (¬ (h.1.1 a0 3) = 0 → R (false, (h.1.1 a0 2)) h) ∧ (¬ (¬ (h.1.1 a0 3) = 0) → fgJ16_isLatin1 [a0] h ∧ i32 (fvJ16_isLatin1 [a0] h) ∧ ((fvJ16_isLatin1 [a0] h) = 0 → False) ∧ (¬ ((fvJ16_isLatin1 [a0] h) = 0) → wN fJ18_hashCode [(h.1.1 a0 0)] h (fun v10 h9 => i32 v10 ∧ (¬ v10 = 0 → h9.2.2.1 a0 = 46 ∧ R (false, v10) (tPut h9 a0 2 v10)) ∧ (¬ (¬ v10 = 0) → h9.2.2.1 a0 = 46 ∧ R (false, v10) (tPut h9 a0 3 1))))))) : wF fJ16_hashCode [a0] h R :=
  wF.of (wR.step (match hh with | ⟨g1, g2, H16, H17⟩ => ⟨g1, ⟨⟨g2, l32_0⟩, fun (c3 : ¬ (h.1.1 a0 2) = 0) => (have H18 := (H16 c3); (show wR bkJ16_hashCode 58 [a0, (h.1.1 a0 2)] [] h _ from wR.step H18)), fun (c3 : ¬ (¬ (h.1.1 a0 2) = 0)) => (match (H17 c3) with | ⟨g4, H19, H20⟩ => (show wR bkJ16_hashCode 9 [a0, (h.1.1 a0 2)] [] h _ from wR.step ⟨g1, ⟨⟨g4, l32_0⟩, fun (c5 : ¬ (h.1.1 a0 3) = 0) => (have H21 := (H19 c5); (show wR bkJ16_hashCode 58 [a0, (h.1.1 a0 2)] [] h _ from wR.step H21)), fun (c5 : ¬ (¬ (h.1.1 a0 3) = 0)) => (match (H20 c5) with | ⟨g6, g7, H22, H23⟩ => (show wR bkJ16_hashCode 16 [a0, (h.1.1 a0 2)] [] h _ from wR.step ⟨g1, g6, ⟨⟨g7, l32_0⟩, fun (c8 : (fvJ16_isLatin1 [a0] h) = 0) => (have H24 := (H22 c8); H24), fun (c8 : ¬ ((fvJ16_isLatin1 [a0] h) = 0)) => (have H25 := (H23 c8); (show wR bkJ16_hashCode 23 [a0, (h.1.1 a0 2)] [] h _ from wR.step ⟨g1, (H25.mono (fun v10 h9 H15 => (match H15 with | ⟨g11, H26, H27⟩ => (show wR bkJ16_hashCode 40 [a0, (h.1.1 a0 2)] [v10] h9 _ from wR.step ⟨⟨g11, l32_0⟩, fun (c12 : ¬ v10 = 0) => (match (H26 c12) with | ⟨g13, H28⟩ => (show wR bkJ16_hashCode 53 [a0, v10] [] h9 _ from wR.step ⟨g13, (show wR bkJ16_hashCode 58 [a0, v10] [] (tPut h9 a0 2 v10) _ from wR.step H28)⟩)), fun (c12 : ¬ (¬ v10 = 0)) => (match (H27 c12) with | ⟨g14, H29⟩ => (show wR bkJ16_hashCode 45 [a0, v10] [] h9 _ from wR.step ⟨⟨g14, (Or.inr rfl)⟩, (show wR bkJ16_hashCode 58 [a0, v10] [] (tPut h9 a0 3 1) _ from wR.step H29)⟩))⟩))))⟩))⟩⟩))⟩⟩))⟩⟩))
def yJ18_equals : MethodName := ⟨RJ18, "equals", "([B[B)Z"⟩
abbrev cJ18_equals : ByteArray := prog_61_method_13_code
noncomputable def bJ18_equals_0 : tX := mx_load 0 (mx_alen 3 (mx_load 1 (mx_alen 1003 (mi_ne (mx_go 34) (mx_go 7)))))
noncomputable def bJ18_equals_7 : tX := mx_push 0 (mx_store 2 (mx_go 9))
noncomputable def bJ18_equals_9 : tX := mx_load 2 (mx_load 0 (mx_alen 3 (mi_ge (mx_go 32) (mx_go 15))))
noncomputable def bJ18_equals_15 : tX := mx_load 0 (mx_load 2 (mx_ald 3 (mx_load 1 (mx_load 2 (mx_ald 1003 (mi_eq (mx_go 26) (mx_go 24)))))))
noncomputable def bJ18_equals_24 : tX := mx_push 0 (mx_retz)
noncomputable def bJ18_equals_26 : tX := mx_iinc 2 1 (mx_go 9)
noncomputable def bJ18_equals_32 : tX := mx_push 1 (mx_retz)
noncomputable def bJ18_equals_34 : tX := mx_push 0 (mx_retz)
noncomputable def tbJ18_equals : List tTe := [(0, ([(0, 2), (1, 2)], []), bJ18_equals_0), (7, ([(0, 2), (1, 2)], []), bJ18_equals_7), (9, ([(0, 2), (1, 2), (2, 0)], []), bJ18_equals_9), (15, ([(0, 2), (1, 2), (2, 0)], []), bJ18_equals_15), (24, ([(0, 2), (1, 2), (2, 0)], []), bJ18_equals_24), (26, ([(0, 2), (1, 2), (2, 0)], []), bJ18_equals_26), (32, ([(0, 2), (1, 2), (2, 0)], []), bJ18_equals_32), (34, ([(0, 2), (1, 2)], []), bJ18_equals_34)]
noncomputable def bkJ18_equals : Nat → tX := tBk tbJ18_equals
noncomputable def fJ18_equals : tFn := tFN [2, 2] 3 bkJ18_equals
noncomputable def eJ18_equals (D : tD) (b0 : Nat) : tM := (cJ18_equals, 3, RJ18, tTy tbJ18_equals, D, b0, 0, 0, some (.boolean), false, [])
noncomputable def opsJ18_equals : List tOpE := [(.arraylength, 1, [2], [0], mx_alen 3), (.arraylength, 1, [2], [0], mx_alen 1003), (.iconst 0, 1, [], [0], mx_push 0), (.baload, 1, [0, 2], [0], mx_ald 3), (.baload, 1, [0, 2], [0], mx_ald 1003), (.iconst 1, 1, [], [0], mx_push 1)]
theorem okJ18_equals (D : tD) (b0 : Nat) : ∀ q ∈ opsJ18_equals, OpOK (eJ18_equals D b0) q := (List.forall_mem_cons.mpr ⟨opk_alen 3 (Nat.le_of_ble_eq_true rfl) rfl, (List.forall_mem_cons.mpr ⟨opk_alen 1003 (Nat.le_of_ble_eq_true rfl) rfl, (List.forall_mem_cons.mpr ⟨opk_iconst 0, (List.forall_mem_cons.mpr ⟨opk_bald, (List.forall_mem_cons.mpr ⟨(fun pc lt ts K hd hst hK => ms_baldO hd hK), (List.forall_mem_cons.mpr ⟨opk_iconst 1, (fun q hq => by cases hq)⟩)⟩)⟩)⟩)⟩)⟩)
theorem ckJ18_equals_0 : ckS (tBy cJ18_equals) opsJ18_equals 3 [(1, 0, 2), (0, 0, 0), (1, 1, 2), (0, 1, 0)] 0 [(0, 2), (1, 2)] [] = some (4, [(0, 2), (1, 2)], [0, 0]) := by decide +kernel
theorem hsJ18_equals_0 (D : tD) (b0 : Nat) : tSx (eJ18_equals D b0) 0 [(0, 2), (1, 2)] [] bJ18_equals_0 := ckS_ok (E := eJ18_equals D b0) (T := mi_ne (mx_go 34) (mx_go 7)) (okJ18_equals D b0) ckJ18_equals_0 (ms_icmp_ne 34 (tDe (c := cJ18_equals) (pc := 4) (i := .if_icmp .ne 30) (n := 3) (by decide +kernel)) rfl (ms_at rfl rfl) (ms_at rfl rfl))
theorem ckJ18_equals_7 : ckS (tBy cJ18_equals) opsJ18_equals 3 [(0, 2, 0), (2, 2, 0)] 7 [(0, 2), (1, 2)] [] = some (9, [(2, 0), (0, 2), (1, 2)], []) := by decide +kernel
theorem hsJ18_equals_7 (D : tD) (b0 : Nat) : tSx (eJ18_equals D b0) 7 [(0, 2), (1, 2)] [] bJ18_equals_7 := ckS_ok (E := eJ18_equals D b0) (T := mx_go 9) (okJ18_equals D b0) ckJ18_equals_7 (ms_at rfl rfl)
theorem ckJ18_equals_9 : ckS (tBy cJ18_equals) opsJ18_equals 3 [(1, 2, 0), (1, 0, 2), (0, 0, 0)] 9 [(0, 2), (1, 2), (2, 0)] [] = some (12, [(0, 2), (1, 2), (2, 0)], [0, 0]) := by decide +kernel
theorem hsJ18_equals_9 (D : tD) (b0 : Nat) : tSx (eJ18_equals D b0) 9 [(0, 2), (1, 2), (2, 0)] [] bJ18_equals_9 := ckS_ok (E := eJ18_equals D b0) (T := mi_ge (mx_go 32) (mx_go 15)) (okJ18_equals D b0) ckJ18_equals_9 (ms_icmp_ge 32 (tDe (c := cJ18_equals) (pc := 12) (i := .if_icmp .ge 20) (n := 3) (by decide +kernel)) rfl (ms_at rfl rfl) (ms_at rfl rfl))
theorem ckJ18_equals_15 : ckS (tBy cJ18_equals) opsJ18_equals 3 [(1, 0, 2), (1, 2, 0), (0, 3, 0), (1, 1, 2), (1, 2, 0), (0, 4, 0)] 15 [(0, 2), (1, 2), (2, 0)] [] = some (21, [(0, 2), (1, 2), (2, 0)], [0, 0]) := by decide +kernel
theorem hsJ18_equals_15 (D : tD) (b0 : Nat) : tSx (eJ18_equals D b0) 15 [(0, 2), (1, 2), (2, 0)] [] bJ18_equals_15 := ckS_ok (E := eJ18_equals D b0) (T := mi_eq (mx_go 26) (mx_go 24)) (okJ18_equals D b0) ckJ18_equals_15 (ms_icmp_eq 26 (tDe (c := cJ18_equals) (pc := 21) (i := .if_icmp .eq 5) (n := 3) (by decide +kernel)) rfl (ms_at rfl rfl) (ms_at rfl rfl))
theorem ckJ18_equals_24 : ckS (tBy cJ18_equals) opsJ18_equals 3 [(0, 2, 0)] 24 [(0, 2), (1, 2), (2, 0)] [] = some (25, [(0, 2), (1, 2), (2, 0)], [0]) := by decide +kernel
theorem hsJ18_equals_24 (D : tD) (b0 : Nat) : tSx (eJ18_equals D b0) 24 [(0, 2), (1, 2), (2, 0)] [] bJ18_equals_24 := ckS_ok (E := eJ18_equals D b0) (T := mx_retz) (okJ18_equals D b0) ckJ18_equals_24 (ms_zret (tDe (c := cJ18_equals) (pc := 25) (i := .ireturn) (n := 1) (by decide +kernel)) rfl)
theorem ckJ18_equals_26 : ckS (tBy cJ18_equals) opsJ18_equals 3 [(3, 2, 1)] 26 [(0, 2), (1, 2), (2, 0)] [] = some (29, [(2, 0), (0, 2), (1, 2)], []) := by decide +kernel
theorem hsJ18_equals_26 (D : tD) (b0 : Nat) : tSx (eJ18_equals D b0) 26 [(0, 2), (1, 2), (2, 0)] [] bJ18_equals_26 := ckS_ok (E := eJ18_equals D b0) (T := mx_go 9) (okJ18_equals D b0) ckJ18_equals_26 (ms_goto 9 (tDe (c := cJ18_equals) (pc := 29) (i := .goto (-20)) (n := 3) (by decide +kernel)) rfl (ms_at rfl rfl))
theorem ckJ18_equals_32 : ckS (tBy cJ18_equals) opsJ18_equals 3 [(0, 5, 0)] 32 [(0, 2), (1, 2), (2, 0)] [] = some (33, [(0, 2), (1, 2), (2, 0)], [0]) := by decide +kernel
theorem hsJ18_equals_32 (D : tD) (b0 : Nat) : tSx (eJ18_equals D b0) 32 [(0, 2), (1, 2), (2, 0)] [] bJ18_equals_32 := ckS_ok (E := eJ18_equals D b0) (T := mx_retz) (okJ18_equals D b0) ckJ18_equals_32 (ms_zret (tDe (c := cJ18_equals) (pc := 33) (i := .ireturn) (n := 1) (by decide +kernel)) rfl)
theorem ckJ18_equals_34 : ckS (tBy cJ18_equals) opsJ18_equals 3 [(0, 2, 0)] 34 [(0, 2), (1, 2)] [] = some (35, [(0, 2), (1, 2)], [0]) := by decide +kernel
theorem hsJ18_equals_34 (D : tD) (b0 : Nat) : tSx (eJ18_equals D b0) 34 [(0, 2), (1, 2)] [] bJ18_equals_34 := ckS_ok (E := eJ18_equals D b0) (T := mx_retz) (okJ18_equals D b0) ckJ18_equals_34 (ms_zret (tDe (c := cJ18_equals) (pc := 35) (i := .ireturn) (n := 1) (by decide +kernel)) rfl)
theorem sJ18_equals (D : tD) (b0 : Nat) : tMX D b0 yJ18_equals (ws_ yJ18_equals cJ18_equals 3 (some (.boolean))) (some (.boolean)) [2, 2] 0 0 fJ18_equals :=
  tMX.lim fun n => tMX.of n (te := tTy tbJ18_equals) (ini := false) pfJ18_equals (fun h => by cases h) (Nat.le_of_ble_eq_true rfl) rfl rfl (tTb (E := eJ18_equals D b0) rfl (List.forall_mem_cons.mpr ⟨hsJ18_equals_0 D b0, (List.forall_mem_cons.mpr ⟨hsJ18_equals_7 D b0, (List.forall_mem_cons.mpr ⟨hsJ18_equals_9 D b0, (List.forall_mem_cons.mpr ⟨hsJ18_equals_15 D b0, (List.forall_mem_cons.mpr ⟨hsJ18_equals_24 D b0, (List.forall_mem_cons.mpr ⟨hsJ18_equals_26 D b0, (List.forall_mem_cons.mpr ⟨hsJ18_equals_32 D b0, (List.forall_mem_cons.mpr ⟨hsJ18_equals_34 D b0, (fun q hq => by cases hq)⟩)⟩)⟩)⟩)⟩)⟩)⟩)⟩))
theorem vJ18_equals_0 {R : tQ2} (a0 a1 : Int) (h : tH) (hh : h.2.2.1 a0 = 1003 ∧ h.2.2.1 a1 = 2003 ∧ i32 (h.2.1 a0) ∧ i32 (h.2.1 a1) ∧ (¬ (h.2.1 a0) = (h.2.1 a1) → R (false, 0) h) ∧ (¬ (¬ (h.2.1 a0) = (h.2.1 a1)) → wR bkJ18_equals 9 [a0, a1, 0] [] h R)) : wF fJ18_equals [a0, a1] h R :=
  wF.of (wR.step (match hh with | ⟨g1, g2, g3, g4, H6, H7⟩ => ⟨g1, ⟨g2, ⟨⟨g3, g4⟩, fun (c5 : ¬ (h.2.1 a0) = (h.2.1 a1)) => (have H8 := (H6 c5); (show wR bkJ18_equals 34 [a0, a1, 0] [] h _ from wR.step ⟨(Or.inl rfl), H8⟩)), fun (c5 : ¬ (¬ (h.2.1 a0) = (h.2.1 a1))) => (have H9 := (H7 c5); (show wR bkJ18_equals 7 [a0, a1, 0] [] h _ from wR.step H9))⟩⟩⟩))
theorem vJ18_equals_9 {R : tQ2} (l0 l1 l2 : Int) (h : tH) (hh : h.2.2.1 l0 = 1003 ∧ i32 l2 ∧ i32 (h.2.1 l0) ∧ ((h.2.1 l0) ≤ l2 → R (false, 1) h) ∧ (¬ ((h.2.1 l0) ≤ l2) → 0 ≤ l2 ∧ l2 < h.2.1 l0 ∧ h.2.2.1 l1 = 2003 ∧ l2 < h.2.1 l1 ∧ i32 (h.1.2 l0 l2) ∧ i32 (h.1.2 l1 l2) ∧ ((h.1.2 l0 l2) = (h.1.2 l1 l2) → wR bkJ18_equals 9 [l0, l1, (l2 + 1)] [] h R) ∧ (¬ ((h.1.2 l0 l2) = (h.1.2 l1 l2)) → R (false, 0) h))) : wR bkJ18_equals 9 [l0, l1, l2] [] h R :=
  wR.step (match hh with | ⟨g1, g2, g3, H12, H13⟩ => ⟨g1, ⟨⟨g2, g3⟩, fun (c4 : (h.2.1 l0) ≤ l2) => (have H14 := (H12 c4); (show wR bkJ18_equals 32 [l0, l1, l2] [] h _ from wR.step ⟨(Or.inr rfl), H14⟩)), fun (c4 : ¬ ((h.2.1 l0) ≤ l2)) => (match (H13 c4) with | ⟨g5, g6, g7, g8, g9, g10, H15, H16⟩ => (show wR bkJ18_equals 15 [l0, l1, l2] [] h _ from wR.step ⟨⟨g1, g5, g6⟩, ⟨⟨g7, g5, g8⟩, ⟨⟨g9, g10⟩, fun (c11 : (h.1.2 l0 l2) = (h.1.2 l1 l2)) => (have H17 := (H15 c11); (show wR bkJ18_equals 26 [l0, l1, l2] [] h _ from wR.step H17)), fun (c11 : ¬ ((h.1.2 l0 l2) = (h.1.2 l1 l2))) => (have H18 := (H16 c11); (show wR bkJ18_equals 24 [l0, l1, l2] [] h _ from wR.step ⟨(Or.inl rfl), H18⟩))⟩⟩⟩))⟩⟩)
def yJ16_equals : MethodName := ⟨RJ16, "equals", "(Ljava/lang/Object;)Z"⟩
abbrev cJ16_equals : ByteArray := prog_59_method_66_code
noncomputable def bJ16_equals_0 : tX := mx_load 0 (mx_load 1 (ma_ne (mx_go 7) (mx_go 5)))
noncomputable def bJ16_equals_5 : tX := mx_push 1 (mx_retz)
noncomputable def bJ16_equals_7 : tX := mx_load 1 (mx_inst 2046 (mx_push 0 (mi_eq (mx_go 54) (mx_go 14))))
noncomputable def bJ16_equals_14 : tX := mx_load 1 (mx_cast 2046 (mx_store 2 (mx_push 1 (mx_push 0 (mi_eq (mx_go 36) (mx_go 25))))))
noncomputable def bJ16_equals_25 : tX := mx_load 0 (mx_getf 46 1 (mx_load 2 (mx_getf 2046 1 (mi_ne (mx_go 54) (mx_go 36)))))
noncomputable def bJ16_equals_36 : tX := mx_load 0 (mx_getf 46 0 (mx_load 2 (mx_getf 2046 0 (mx_callN fJ18_equals 2 (mx_push 0 (mi_eq (mx_go 54) (mx_go 50)))))))
noncomputable def bJ16_equals_50 : tX := mx_push 1 (mx_go 55)
noncomputable def bJ16_equals_54 : tX := mx_push 0 (mx_go 55)
noncomputable def bJ16_equals_55 : tX := mx_retz
noncomputable def tbJ16_equals : List tTe := [(0, ([(0, 2), (1, 2)], []), bJ16_equals_0), (5, ([(0, 2), (1, 2)], []), bJ16_equals_5), (7, ([(0, 2), (1, 2)], []), bJ16_equals_7), (14, ([(0, 2), (1, 2)], []), bJ16_equals_14), (25, ([(0, 2), (1, 2), (2, 2)], []), bJ16_equals_25), (36, ([(0, 2), (1, 2), (2, 2)], []), bJ16_equals_36), (50, ([(0, 2), (1, 2), (2, 2)], []), bJ16_equals_50), (54, ([(0, 2), (1, 2)], []), bJ16_equals_54), (55, ([(0, 2), (1, 2)], [0]), bJ16_equals_55)]
noncomputable def bkJ16_equals : Nat → tX := tBk tbJ16_equals
noncomputable def fJ16_equals : tFn := tFN [2, 2] 3 bkJ16_equals
noncomputable def eJ16_equals (D : tD) (b0 : Nat) : tM := (cJ16_equals, 3, RJ16, tTy tbJ16_equals, D, b0, 1, 46, some (.boolean), false, [])
noncomputable def opsJ16_equals : List tOpE := [(.iconst 1, 1, [], [0], mx_push 1), (.instanceof 10, 3, [2], [0], mx_inst 2046), (.checkcast 10, 3, [2], [2], mx_cast 2046), (.getstatic 38, 3, [], [0], mx_push 1), (.getfield 15, 3, [2], [0], mx_getf 46 1), (.getfield 15, 3, [2], [0], mx_getf 2046 1), (.getfield 9, 3, [2], [2], mx_getf 46 0), (.getfield 9, 3, [2], [2], mx_getf 2046 0), (.invokestatic 541, 3, [2, 2], [0], mx_callN fJ18_equals 2), (.iconst 0, 1, [], [0], mx_push 0)]
theorem okJ16_equals (D : tD) (b0 : Nat) : ∀ q ∈ opsJ16_equals, OpOK (eJ16_equals D b0) q := (List.forall_mem_cons.mpr ⟨opk_iconst 1, (List.forall_mem_cons.mpr ⟨(fun pc lt ts K hd hst hK => ms_inst 2046 (Nat.le_of_ble_eq_true rfl) rfl q2525 hd hK), (List.forall_mem_cons.mpr ⟨(fun pc lt ts K hd hst hK => ms_castO 2046 (Nat.le_of_ble_eq_true rfl) rfl q2525 hd hK), (List.forall_mem_cons.mpr ⟨(fun pc lt ts K hd hst hK => ms_getsC q2402 (Or.inl rfl) hd hK), (List.forall_mem_cons.mpr ⟨opk_getf 46 1 0 rfl (Nat.le_of_ble_eq_true rfl) (Nat.le_of_ble_eq_true rfl) q2417 (Or.inl rfl) rfl, (List.forall_mem_cons.mpr ⟨opk_getf 2046 1 0 rfl (Nat.le_of_ble_eq_true rfl) (Nat.le_of_ble_eq_true rfl) q2417 (Or.inl rfl) rfl, (List.forall_mem_cons.mpr ⟨opk_getf 46 0 2 rfl (Nat.le_of_ble_eq_true rfl) (Nat.le_of_ble_eq_true rfl) q2416 (Or.inl rfl) rfl, (List.forall_mem_cons.mpr ⟨opk_getf 2046 0 2 rfl (Nat.le_of_ble_eq_true rfl) (Nat.le_of_ble_eq_true rfl) q2416 (Or.inl rfl) rfl, (List.forall_mem_cons.mpr ⟨(fun pc lt ts K hd hst hK => ms_callSN [2, 2] ts (sJ18_equals D b0) q2526 q2527 q240 q2528 hcJ18 pd__p_aB_aB_qZ (Nat.le_of_ble_eq_true rfl) (Nat.le_trans (Nat.add_le_add_right (Nat.add_le_add_right hst _) _) (Nat.le_of_ble_eq_true rfl)) rfl rfl rfl rfl hd hK), (List.forall_mem_cons.mpr ⟨opk_iconst 0, (fun q hq => by cases hq)⟩)⟩)⟩)⟩)⟩)⟩)⟩)⟩)⟩)⟩)
theorem ckJ16_equals_0 : ckS (tBy cJ16_equals) opsJ16_equals 3 [(1, 0, 2), (1, 1, 2)] 0 [(0, 2), (1, 2)] [] = some (2, [(0, 2), (1, 2)], [2, 2]) := by decide +kernel
theorem hsJ16_equals_0 (D : tD) (b0 : Nat) : tSx (eJ16_equals D b0) 0 [(0, 2), (1, 2)] [] bJ16_equals_0 := ckS_ok (E := eJ16_equals D b0) (T := ma_ne (mx_go 7) (mx_go 5)) (okJ16_equals D b0) ckJ16_equals_0 (ms_acmp_ne 7 (by decide +kernel : decode cJ16_equals 2 = .ok (.if_acmp .ne 5, 3)) rfl (ms_at rfl rfl) (ms_at rfl rfl))
theorem ckJ16_equals_5 : ckS (tBy cJ16_equals) opsJ16_equals 3 [(0, 0, 0)] 5 [(0, 2), (1, 2)] [] = some (6, [(0, 2), (1, 2)], [0]) := by decide +kernel
theorem hsJ16_equals_5 (D : tD) (b0 : Nat) : tSx (eJ16_equals D b0) 5 [(0, 2), (1, 2)] [] bJ16_equals_5 := ckS_ok (E := eJ16_equals D b0) (T := mx_retz) (okJ16_equals D b0) ckJ16_equals_5 (ms_zret (tDe (c := cJ16_equals) (pc := 6) (i := .ireturn) (n := 1) (by decide +kernel)) rfl)
theorem ckJ16_equals_7 : ckS (tBy cJ16_equals) opsJ16_equals 3 [(1, 1, 2), (0, 1, 0)] 7 [(0, 2), (1, 2)] [] = some (11, [(0, 2), (1, 2)], [0]) := by decide +kernel
theorem hsJ16_equals_7 (D : tD) (b0 : Nat) : tSx (eJ16_equals D b0) 7 [(0, 2), (1, 2)] [] bJ16_equals_7 := ckS_ok (E := eJ16_equals D b0) (T := mx_push 0 (mi_eq (mx_go 54) (mx_go 14))) (okJ16_equals D b0) ckJ16_equals_7 (ms_if_eq 54 (tDe (c := cJ16_equals) (pc := 11) (i := .ifCond .eq 43) (n := 3) (by decide +kernel)) rfl (ms_at rfl rfl) (ms_at rfl rfl))
theorem ckJ16_equals_14 : ckS (tBy cJ16_equals) opsJ16_equals 3 [(1, 1, 2), (0, 2, 0), (2, 2, 2), (0, 3, 0)] 14 [(0, 2), (1, 2)] [] = some (22, [(2, 2), (0, 2), (1, 2)], [0]) := by decide +kernel
theorem hsJ16_equals_14 (D : tD) (b0 : Nat) : tSx (eJ16_equals D b0) 14 [(0, 2), (1, 2)] [] bJ16_equals_14 := ckS_ok (E := eJ16_equals D b0) (T := mx_push 0 (mi_eq (mx_go 36) (mx_go 25))) (okJ16_equals D b0) ckJ16_equals_14 (ms_if_eq 36 (tDe (c := cJ16_equals) (pc := 22) (i := .ifCond .eq 14) (n := 3) (by decide +kernel)) rfl (ms_at rfl rfl) (ms_at rfl rfl))
theorem ckJ16_equals_25 : ckS (tBy cJ16_equals) opsJ16_equals 3 [(1, 0, 2), (0, 4, 0), (1, 2, 2), (0, 5, 0)] 25 [(0, 2), (1, 2), (2, 2)] [] = some (33, [(0, 2), (1, 2), (2, 2)], [0, 0]) := by decide +kernel
theorem hsJ16_equals_25 (D : tD) (b0 : Nat) : tSx (eJ16_equals D b0) 25 [(0, 2), (1, 2), (2, 2)] [] bJ16_equals_25 := ckS_ok (E := eJ16_equals D b0) (T := mi_ne (mx_go 54) (mx_go 36)) (okJ16_equals D b0) ckJ16_equals_25 (ms_icmp_ne 54 (tDe (c := cJ16_equals) (pc := 33) (i := .if_icmp .ne 21) (n := 3) (by decide +kernel)) rfl (ms_at rfl rfl) (ms_at rfl rfl))
theorem ckJ16_equals_36 : ckS (tBy cJ16_equals) opsJ16_equals 3 [(1, 0, 2), (0, 6, 0), (1, 2, 2), (0, 7, 0), (0, 8, 0)] 36 [(0, 2), (1, 2), (2, 2)] [] = some (47, [(0, 2), (1, 2), (2, 2)], [0]) := by decide +kernel
theorem hsJ16_equals_36 (D : tD) (b0 : Nat) : tSx (eJ16_equals D b0) 36 [(0, 2), (1, 2), (2, 2)] [] bJ16_equals_36 := ckS_ok (E := eJ16_equals D b0) (T := mx_push 0 (mi_eq (mx_go 54) (mx_go 50))) (okJ16_equals D b0) ckJ16_equals_36 (ms_if_eq 54 (tDe (c := cJ16_equals) (pc := 47) (i := .ifCond .eq 7) (n := 3) (by decide +kernel)) rfl (ms_at rfl rfl) (ms_at rfl rfl))
theorem ckJ16_equals_50 : ckS (tBy cJ16_equals) opsJ16_equals 3 [(0, 0, 0)] 50 [(0, 2), (1, 2), (2, 2)] [] = some (51, [(0, 2), (1, 2), (2, 2)], [0]) := by decide +kernel
theorem hsJ16_equals_50 (D : tD) (b0 : Nat) : tSx (eJ16_equals D b0) 50 [(0, 2), (1, 2), (2, 2)] [] bJ16_equals_50 := ckS_ok (E := eJ16_equals D b0) (T := mx_go 55) (okJ16_equals D b0) ckJ16_equals_50 (ms_goto 55 (tDe (c := cJ16_equals) (pc := 51) (i := .goto 4) (n := 3) (by decide +kernel)) rfl (ms_at rfl rfl))
theorem ckJ16_equals_54 : ckS (tBy cJ16_equals) opsJ16_equals 3 [(0, 9, 0)] 54 [(0, 2), (1, 2)] [] = some (55, [(0, 2), (1, 2)], [0]) := by decide +kernel
theorem hsJ16_equals_54 (D : tD) (b0 : Nat) : tSx (eJ16_equals D b0) 54 [(0, 2), (1, 2)] [] bJ16_equals_54 := ckS_ok (E := eJ16_equals D b0) (T := mx_go 55) (okJ16_equals D b0) ckJ16_equals_54 (ms_at rfl rfl)
theorem hsJ16_equals_55 (D : tD) (b0 : Nat) : tSx (eJ16_equals D b0) 55 [(0, 2), (1, 2)] [0] bJ16_equals_55 := (ms_zret (tDe (c := cJ16_equals) (pc := 55) (i := .ireturn) (n := 1) (by decide +kernel)) rfl)
theorem sJ16_equals (D : tD) (b0 : Nat) : tMX D b0 yJ16_equals (ws_ yJ16_equals cJ16_equals 3 (some (.boolean))) (some (.boolean)) [2, 2] 1 46 fJ16_equals :=
  tMX.lim fun n => tMX.of n (te := tTy tbJ16_equals) (ini := false) pfJ16_equals (fun h => by cases h) (Nat.le_of_ble_eq_true rfl) rfl rfl (tTb (E := eJ16_equals D b0) rfl (List.forall_mem_cons.mpr ⟨hsJ16_equals_0 D b0, (List.forall_mem_cons.mpr ⟨hsJ16_equals_5 D b0, (List.forall_mem_cons.mpr ⟨hsJ16_equals_7 D b0, (List.forall_mem_cons.mpr ⟨hsJ16_equals_14 D b0, (List.forall_mem_cons.mpr ⟨hsJ16_equals_25 D b0, (List.forall_mem_cons.mpr ⟨hsJ16_equals_36 D b0, (List.forall_mem_cons.mpr ⟨hsJ16_equals_50 D b0, (List.forall_mem_cons.mpr ⟨hsJ16_equals_54 D b0, (List.forall_mem_cons.mpr ⟨hsJ16_equals_55 D b0, (fun q hq => by cases hq)⟩)⟩)⟩)⟩)⟩)⟩)⟩)⟩)⟩))
theorem vJ16_equals_0 {R : tQ2} (a0 a1 : Int) (h : tH) (hh : 0 ≤ a0 ∧ 0 ≤ a1 ∧ (¬ a0 = a1 → h.2.2.1 a1 = 2046 ∧ h.2.2.1 a0 = 46 ∧ i32 (h.1.1 a0 1) ∧ i32 (h.1.1 a1 1) ∧ (¬ (h.1.1 a0 1) = (h.1.1 a1 1) → R (false, 0) h) ∧ (¬ (¬ (h.1.1 a0 1) = (h.1.1 a1 1)) → wN fJ18_equals [(h.1.1 a0 0), (h.1.1 a1 0)] h (fun v12 h11 => i32 v12 ∧ (v12 = 0 → R (false, 0) h11) ∧ (¬ (v12 = 0) → R (false, 1) h11)))) ∧ (¬ (¬ a0 = a1) → R (false, 1) h)) : wF fJ16_equals [a0, a1] h R :=
  wF.of (wR.step (match hh with | ⟨g1, g2, H16, H17⟩ => ⟨⟨g1, g2⟩, fun (c3 : ¬ a0 = a1) => (match (H16 c3) with | ⟨g4, H18⟩ => (show wR bkJ16_equals 7 [a0, a1, 0] [] h _ from wR.step ⟨g4, ⟨⟨l32_1, l32_0⟩, fun (z : 1 = 0) => absurd z (by decide), fun _ => (have H19 := H18; (show wR bkJ16_equals 14 [a0, a1, 0] [] h _ from wR.step ⟨g4, ⟨⟨l32_1, l32_0⟩, fun (z : 1 = 0) => absurd z (by decide), fun _ => (match H19 with | ⟨g7, g8, g9, H20, H21⟩ => (show wR bkJ16_equals 25 [a0, a1, a1] [] h _ from wR.step ⟨g7, ⟨g4, ⟨⟨g8, g9⟩, fun (c10 : ¬ (h.1.1 a0 1) = (h.1.1 a1 1)) => (have H22 := (H20 c10); (show wR bkJ16_equals 54 [a0, a1, a1] [] h _ from wR.step (show wR bkJ16_equals 55 [a0, a1, a1] [0] h _ from wR.step ⟨(Or.inl rfl), H22⟩))), fun (c10 : ¬ (¬ (h.1.1 a0 1) = (h.1.1 a1 1))) => (have H23 := (H21 c10); (show wR bkJ16_equals 36 [a0, a1, a1] [] h _ from wR.step ⟨g7, ⟨g4, (H23.mono (fun v12 h11 H15 => (match H15 with | ⟨g13, H24, H25⟩ => ⟨⟨g13, l32_0⟩, fun (c14 : v12 = 0) => (have H26 := (H24 c14); (show wR bkJ16_equals 54 [a0, a1, a1] [] h11 _ from wR.step (show wR bkJ16_equals 55 [a0, a1, a1] [0] h11 _ from wR.step ⟨(Or.inl rfl), H26⟩))), fun (c14 : ¬ (v12 = 0)) => (have H27 := (H25 c14); (show wR bkJ16_equals 50 [a0, a1, a1] [] h11 _ from wR.step (show wR bkJ16_equals 55 [a0, a1, a1] [1] h11 _ from wR.step ⟨(Or.inr rfl), H27⟩)))⟩)))⟩⟩))⟩⟩⟩))⟩⟩))⟩⟩)), fun (c3 : ¬ (¬ a0 = a1)) => (have H28 := (H17 c3); (show wR bkJ16_equals 5 [a0, a1, 0] [] h _ from wR.step ⟨(Or.inr rfl), H28⟩))⟩))
def yJ4_init : MethodName := ⟨RJ4, "<init>", "()V"⟩
abbrev cJ4_init : ByteArray := prog_68_method_1_code
noncomputable def bJ4_init_rJ6_0 : tX := mx_load 0 (mx_obj (mx_go 4))
noncomputable def bJ4_init_rJ6_4 : tX := mx_retv
noncomputable def tbJ4_init_rJ6 : List tTe := [(0, ([(0, 2)], []), bJ4_init_rJ6_0), (4, ([(0, 2)], []), bJ4_init_rJ6_4)]
noncomputable def bkJ4_init_rJ6 : Nat → tX := tBk tbJ4_init_rJ6
noncomputable def fJ4_init_rJ6 : tFn := tFN [2] 1 bkJ4_init_rJ6
noncomputable def eJ4_init_rJ6 (D : tD) (b0 : Nat) : tM := (cJ4_init, 1, RJ4, tTy tbJ4_init_rJ6, D, b0, 1, 44, none, true, [])
noncomputable def opsJ4_init_rJ6 : List tOpE := [(.invokespecial 1, 3, [2], [], mx_obj)]
theorem okJ4_init_rJ6 (D : tD) (b0 : Nat) : ∀ q ∈ opsJ4_init_rJ6, OpOK (eJ4_init_rJ6 D b0) q := (List.forall_mem_cons.mpr ⟨(fun pc lt ts K hd hst hK => ms_obj q396 q248 q249 (Nat.le_of_ble_eq_true rfl) (Nat.le_trans (Nat.add_le_add_right hst _) (Nat.le_of_ble_eq_true rfl)) hd hK), (fun q hq => by cases hq)⟩)
theorem ckJ4_init_rJ6_0 : ckS (tBy cJ4_init) opsJ4_init_rJ6 1 [(1, 0, 2), (0, 0, 0)] 0 [(0, 2)] [] = some (4, [(0, 2)], []) := by decide +kernel
theorem hsJ4_init_rJ6_0 (D : tD) (b0 : Nat) : tSx (eJ4_init_rJ6 D b0) 0 [(0, 2)] [] bJ4_init_rJ6_0 := ckS_ok (E := eJ4_init_rJ6 D b0) (T := mx_go 4) (okJ4_init_rJ6 D b0) ckJ4_init_rJ6_0 (ms_at rfl rfl)
theorem hsJ4_init_rJ6_4 (D : tD) (b0 : Nat) : tSx (eJ4_init_rJ6 D b0) 4 [(0, 2)] [] bJ4_init_rJ6_4 := (ms_vret (tDe (c := cJ4_init) (pc := 4) (i := .return_) (n := 1) (by decide +kernel)) rfl)
theorem sJ4_init_rJ6 (D : tD) (b0 : Nat) : tMX D b0 yJ4_init (ws_ yJ4_init cJ4_init 1 (none)) (none) [2] 1 44 fJ4_init_rJ6 :=
  tMX.lim fun n => tMX.of n (te := tTy tbJ4_init_rJ6) (ini := true) pfJ4_init (fun h => by rfl) (Nat.le_of_ble_eq_true rfl) rfl rfl (tTb (E := eJ4_init_rJ6 D b0) rfl (List.forall_mem_cons.mpr ⟨hsJ4_init_rJ6_0 D b0, (List.forall_mem_cons.mpr ⟨hsJ4_init_rJ6_4 D b0, (fun q hq => by cases hq)⟩)⟩))
def fgJ4_init_rJ6 : List Int → tH → Prop := fun as h => match as with
  | [a0] => h.2.2.1 a0 < 1000
  | _ => False
def fvJ4_init_rJ6 : List Int → tH → Int := fun as h => match as with
  | [a0] => 0
  | _ => 0
def fhJ4_init_rJ6 : List Int → tH → tH := fun as h => h
theorem zJ4_init_rJ6 : tZ fJ4_init_rJ6 fgJ4_init_rJ6 fvJ4_init_rJ6 fhJ4_init_rJ6 := fun as h hg => match as, hg with
  | [a0], hg => by
    obtain ⟨v, h2, hF, rfl, rfl⟩ := wN.of (ks := [2]) (nL := 1) (Bk := bkJ4_init_rJ6) (as := [a0]) (h := h) (Q := fun v h2 => v = fvJ4_init_rJ6 [a0] h ∧ h2 = fhJ4_init_rJ6 [a0] h) (wR.step (have Ec0 : fvJ4_init_rJ6 [a0] h = 0 := rfl; (have g1 := hg; ⟨g1, (show wR bkJ4_init_rJ6 4 [a0] [] h _ from wR.step ⟨rfl, Ec0.symm, rfl⟩)⟩)))
    exact hF
  | [], hg => hg.elim
  | _ :: _ :: _, hg => hg.elim
def yJ5_init : MethodName := ⟨RJ5, "<init>", "()V"⟩
abbrev cJ5_init : ByteArray := prog_69_method_1_code
noncomputable def bJ5_init_rJ6_0 : tX := mx_load 0 (mv_callZv 43 fJ4_init_rJ6 zJ4_init_rJ6 1 (mx_go 4))
noncomputable def bJ5_init_rJ6_4 : tX := mx_load 0 (mx_push 0 (mx_putf 43 0 (fun _ => rfl) (mx_retv)))
noncomputable def tbJ5_init_rJ6 : List tTe := [(0, ([(0, 2)], []), bJ5_init_rJ6_0), (4, ([(0, 2)], []), bJ5_init_rJ6_4)]
noncomputable def bkJ5_init_rJ6 : Nat → tX := tBk tbJ5_init_rJ6
noncomputable def fJ5_init_rJ6 : tFn := tFN [2] 1 bkJ5_init_rJ6
noncomputable def eJ5_init_rJ6 (D : tD) (b0 : Nat) : tM := (cJ5_init, 1, RJ5, tTy tbJ5_init_rJ6, D, b0, 2, 88, none, true, [])
noncomputable def opsJ5_init_rJ6 : List tOpE := [(.invokespecial 1, 3, [2], [], mv_callZv 43 fJ4_init_rJ6 zJ4_init_rJ6 1), (.iconst 0, 1, [], [0], mx_push 0), (.putfield 7, 3, [0, 2], [], mx_putf 43 0 (fun _ => rfl))]
theorem okJ5_init_rJ6 (D : tD) (b0 : Nat) : ∀ q ∈ opsJ5_init_rJ6, OpOK (eJ5_init_rJ6 D b0) q := (List.forall_mem_cons.mpr ⟨(fun pc lt ts K hd hst hK => ms_callIZv (hz := zJ4_init_rJ6) 43 [] ts (sJ4_init_rJ6 D b0) (Nat.le_of_ble_eq_true rfl) rfl rfl q393 q394 q187 q395 hcJ4 pd__p_qV (Nat.le_of_ble_eq_true rfl) (Nat.le_trans (Nat.add_le_add_right (Nat.add_le_add_right hst _) _) (Nat.le_of_ble_eq_true rfl)) rfl rfl rfl hd hK), (List.forall_mem_cons.mpr ⟨opk_iconst 0, (List.forall_mem_cons.mpr ⟨opk_putf 43 0 0 rfl (Nat.le_of_ble_eq_true rfl) (Nat.le_of_ble_eq_true rfl) q403 (Or.inl rfl) (Or.inl rfl) rfl, (fun q hq => by cases hq)⟩)⟩)⟩)
theorem ckJ5_init_rJ6_0 : ckS (tBy cJ5_init) opsJ5_init_rJ6 1 [(1, 0, 2), (0, 0, 0)] 0 [(0, 2)] [] = some (4, [(0, 2)], []) := by decide +kernel
theorem hsJ5_init_rJ6_0 (D : tD) (b0 : Nat) : tSx (eJ5_init_rJ6 D b0) 0 [(0, 2)] [] bJ5_init_rJ6_0 := ckS_ok (E := eJ5_init_rJ6 D b0) (T := mx_go 4) (okJ5_init_rJ6 D b0) ckJ5_init_rJ6_0 (ms_at rfl rfl)
theorem ckJ5_init_rJ6_4 : ckS (tBy cJ5_init) opsJ5_init_rJ6 1 [(1, 0, 2), (0, 1, 0), (0, 2, 0)] 4 [(0, 2)] [] = some (9, [(0, 2)], []) := by decide +kernel
theorem hsJ5_init_rJ6_4 (D : tD) (b0 : Nat) : tSx (eJ5_init_rJ6 D b0) 4 [(0, 2)] [] bJ5_init_rJ6_4 := ckS_ok (E := eJ5_init_rJ6 D b0) (T := mx_retv) (okJ5_init_rJ6 D b0) ckJ5_init_rJ6_4 (ms_vret (tDe (c := cJ5_init) (pc := 9) (i := .return_) (n := 1) (by decide +kernel)) rfl)
theorem sJ5_init_rJ6 (D : tD) (b0 : Nat) : tMX D b0 yJ5_init (ws_ yJ5_init cJ5_init 1 (none)) (none) [2] 2 88 fJ5_init_rJ6 :=
  tMX.lim fun n => tMX.of n (te := tTy tbJ5_init_rJ6) (ini := true) pfJ5_init (fun h => by rfl) (Nat.le_of_ble_eq_true rfl) rfl rfl (tTb (E := eJ5_init_rJ6 D b0) rfl (List.forall_mem_cons.mpr ⟨hsJ5_init_rJ6_0 D b0, (List.forall_mem_cons.mpr ⟨hsJ5_init_rJ6_4 D b0, (fun q hq => by cases hq)⟩)⟩))
def fgJ5_init_rJ6 : List Int → tH → Prop := fun as h => match as with
  | [a0] => h.2.2.1 a0 = 43 ∧ fgJ4_init_rJ6 [a0] h
  | _ => False
def fvJ5_init_rJ6 : List Int → tH → Int := fun as h => match as with
  | [a0] => 0
  | _ => 0
def fhJ5_init_rJ6 : List Int → tH → tH := fun as h => match as with
  | [a0] => (tPut h a0 0 0)
  | _ => h
theorem zJ5_init_rJ6 : tZ fJ5_init_rJ6 fgJ5_init_rJ6 fvJ5_init_rJ6 fhJ5_init_rJ6 := fun as h hg => match as, hg with
  | [a0], hg => by
    obtain ⟨v, h2, hF, rfl, rfl⟩ := wN.of (ks := [2]) (nL := 1) (Bk := bkJ5_init_rJ6) (as := [a0]) (h := h) (Q := fun v h2 => v = fvJ5_init_rJ6 [a0] h ∧ h2 = fhJ5_init_rJ6 [a0] h) (wR.step (have Ec0 : fvJ5_init_rJ6 [a0] h = 0 := rfl; (match hg with | ⟨g1, g2⟩ => ⟨g1, g2, (show wR bkJ5_init_rJ6 4 [a0] [] h _ from wR.step ⟨g1, ⟨rfl, Ec0.symm, rfl⟩⟩)⟩)))
    exact hF
  | [], hg => hg.elim
  | _ :: _ :: _, hg => hg.elim
def yJ6_init : MethodName := ⟨RJ6, "<init>", "(I)V"⟩
abbrev cJ6_init : ByteArray := prog_70_method_1_code
noncomputable def bJ6_init_0 : tX := mx_load 0 (mv_callZv 43 fJ5_init_rJ6 zJ5_init_rJ6 1 (mx_go 4))
noncomputable def bJ6_init_4 : tX := mx_load 1 (mx_push 0 (mi_le mx_none (mx_go 8)))
noncomputable def bJ6_init_8 : tX := mx_load 0 (mx_load 1 (mx_newa 10 (mx_putf 43 1 (fun _ => rfl) (mx_go 60))))
noncomputable def bJ6_init_60 : tX := mx_retv
noncomputable def tbJ6_init : List tTe := [(0, ([(0, 2), (1, 0)], []), bJ6_init_0), (4, ([(0, 2), (1, 0)], []), bJ6_init_4), (8, ([(0, 2), (1, 0)], []), bJ6_init_8), (60, ([(0, 2), (1, 0)], []), bJ6_init_60)]
noncomputable def bkJ6_init : Nat → tX := tBk tbJ6_init
noncomputable def fJ6_init : tFn := tFN [2, 0] 2 bkJ6_init
noncomputable def eJ6_init (D : tD) (b0 : Nat) : tM := (cJ6_init, 2, RJ6, tTy tbJ6_init, D, b0, 3, 132, none, true, [])
noncomputable def opsJ6_init : List tOpE := [(.invokespecial 1, 3, [2], [], mv_callZv 43 fJ5_init_rJ6 zJ5_init_rJ6 1), (.anewarray 7, 3, [0], [2], mx_newa 10), (.putfield 9, 3, [2, 2], [], mx_putf 43 1 (fun _ => rfl))]
theorem okJ6_init (D : tD) (b0 : Nat) : ∀ q ∈ opsJ6_init, OpOK (eJ6_init D b0) q := (List.forall_mem_cons.mpr ⟨(fun pc lt ts K hd hst hK => ms_callIZv (hz := zJ5_init_rJ6) 43 [] ts (sJ5_init_rJ6 D b0) (Nat.le_of_ble_eq_true rfl) rfl rfl q390 q391 q188 q392 hcJ5 pd__p_qV (Nat.le_of_ble_eq_true rfl) (Nat.le_trans (Nat.add_le_add_right (Nat.add_le_add_right hst _) _) (Nat.le_of_ble_eq_true rfl)) rfl rfl rfl hd hK), (List.forall_mem_cons.mpr ⟨(fun pc lt ts K hd hst hK => ms_anewO 10 (Nat.le_of_ble_eq_true rfl) rfl q397 q398 hd hK), (List.forall_mem_cons.mpr ⟨opk_putf 43 1 2 rfl (Nat.le_of_ble_eq_true rfl) (Nat.le_of_ble_eq_true rfl) q401 (Or.inl rfl) (Or.inl rfl) rfl, (fun q hq => by cases hq)⟩)⟩)⟩)
theorem ckJ6_init_0 : ckS (tBy cJ6_init) opsJ6_init 2 [(1, 0, 2), (0, 0, 0)] 0 [(0, 2), (1, 0)] [] = some (4, [(0, 2), (1, 0)], []) := by decide +kernel
theorem hsJ6_init_0 (D : tD) (b0 : Nat) : tSx (eJ6_init D b0) 0 [(0, 2), (1, 0)] [] bJ6_init_0 := ckS_ok (E := eJ6_init D b0) (T := mx_go 4) (okJ6_init D b0) ckJ6_init_0 (ms_at rfl rfl)
theorem ckJ6_init_4 : ckS (tBy cJ6_init) opsJ6_init 2 [(1, 1, 0)] 4 [(0, 2), (1, 0)] [] = some (5, [(0, 2), (1, 0)], [0]) := by decide +kernel
theorem hsJ6_init_4 (D : tD) (b0 : Nat) : tSx (eJ6_init D b0) 4 [(0, 2), (1, 0)] [] bJ6_init_4 := ckS_ok (E := eJ6_init D b0) (T := mx_push 0 (mi_le mx_none (mx_go 8))) (okJ6_init D b0) ckJ6_init_4 (ms_if_le 19 (tDe (c := cJ6_init) (pc := 5) (i := .ifCond .le 14) (n := 3) (by decide +kernel)) rfl ms_none (ms_at rfl rfl))
theorem ckJ6_init_8 : ckS (tBy cJ6_init) opsJ6_init 2 [(1, 0, 2), (1, 1, 0), (0, 1, 0), (0, 2, 0)] 8 [(0, 2), (1, 0)] [] = some (16, [(0, 2), (1, 0)], []) := by decide +kernel
theorem hsJ6_init_8 (D : tD) (b0 : Nat) : tSx (eJ6_init D b0) 8 [(0, 2), (1, 0)] [] bJ6_init_8 := ckS_ok (E := eJ6_init D b0) (T := mx_go 60) (okJ6_init D b0) ckJ6_init_8 (ms_goto 60 (tDe (c := cJ6_init) (pc := 16) (i := .goto 44) (n := 3) (by decide +kernel)) rfl (ms_at rfl rfl))
theorem hsJ6_init_60 (D : tD) (b0 : Nat) : tSx (eJ6_init D b0) 60 [(0, 2), (1, 0)] [] bJ6_init_60 := (ms_vret (tDe (c := cJ6_init) (pc := 60) (i := .return_) (n := 1) (by decide +kernel)) rfl)
theorem sJ6_init (D : tD) (b0 : Nat) : tMX D b0 yJ6_init (ws_ yJ6_init cJ6_init 2 (none)) (none) [2, 0] 3 132 fJ6_init :=
  tMX.lim fun n => tMX.of n (te := tTy tbJ6_init) (ini := true) pfJ6_init (fun h => by rfl) (Nat.le_of_ble_eq_true rfl) rfl rfl (tTb (E := eJ6_init D b0) rfl (List.forall_mem_cons.mpr ⟨hsJ6_init_0 D b0, (List.forall_mem_cons.mpr ⟨hsJ6_init_4 D b0, (List.forall_mem_cons.mpr ⟨hsJ6_init_8 D b0, (List.forall_mem_cons.mpr ⟨hsJ6_init_60 D b0, (fun q hq => by cases hq)⟩)⟩)⟩)⟩))
def fgJ6_init : List Int → tH → Prop := fun as h => match as with
  | [a0, a1] => h.2.2.1 a0 = 43 ∧ fgJ5_init_rJ6 [a0] h ∧ i32 a1 ∧ (a1 ≤ 0 → False) ∧ (¬ (a1 ≤ 0) → 0 ≤ a1 ∧ a1 ≤ 67108864 ∧ (tNew (fhJ5_init_rJ6 [a0] h) 1010 a1 a1).2.2.1 a0 = 43)
  | _ => False
def fvJ6_init : List Int → tH → Int := fun as h => match as with
  | [a0, a1] => (if a1 ≤ 0 then 0 else 0)
  | _ => 0
def fhJ6_init : List Int → tH → tH := fun as h => match as with
  | [a0, a1] => (tPut (tNew (fhJ5_init_rJ6 [a0] h) 1010 a1 a1) a0 1 (fhJ5_init_rJ6 [a0] h).2.2.2.1)
  | _ => h
theorem zJ6_init : tZ fJ6_init fgJ6_init fvJ6_init fhJ6_init := fun as h hg => match as, hg with
  | [a0, a1], hg => by
    obtain ⟨v, h2, hF, rfl, rfl⟩ := wN.of (ks := [2, 0]) (nL := 2) (Bk := bkJ6_init) (as := [a0, a1]) (h := h) (Q := fun v h2 => v = fvJ6_init [a0, a1] h ∧ h2 = fhJ6_init [a0, a1] h) (wR.step (have Ec0 : fvJ6_init [a0, a1] h = (if a1 ≤ 0 then 0 else 0) := rfl; (match hg with | ⟨g1, g2, g3, H8, H9⟩ => ⟨g1, g2, (show wR bkJ6_init 4 [a0, a1] [] (fhJ5_init_rJ6 [a0] h) _ from wR.step ⟨⟨g3, l32_0⟩, fun (c4 : a1 ≤ 0) => have Ec4 := Ec0.trans (if_pos c4); (have H10 := (H8 c4); H10), fun (c4 : ¬ (a1 ≤ 0)) => have Ec4 := Ec0.trans (if_neg c4); (match (H9 c4) with | ⟨g5, g6, g7⟩ => (show wR bkJ6_init 8 [a0, a1] [] (fhJ5_init_rJ6 [a0] h) _ from wR.step ⟨⟨g5, g6⟩, ⟨g7, (show wR bkJ6_init 60 [a0, a1] [] (tPut (tNew (fhJ5_init_rJ6 [a0] h) 1010 a1 a1) a0 1 (fhJ5_init_rJ6 [a0] h).2.2.2.1) _ from wR.step ⟨rfl, Ec4.symm, rfl⟩)⟩⟩))⟩)⟩)))
    exact hF
  | [], hg => hg.elim
  | [_], hg => hg.elim
  | _ :: _ :: _ :: _, hg => hg.elim
def yJ6_clear : MethodName := ⟨RJ6, "clear", "()V"⟩
abbrev cJ6_clear : ByteArray := prog_70_method_40_code
noncomputable def bJ6_clear_0 : tX := mx_load 0 (mx_dup (mx_getf 43 0 (mx_push 1 (mx_bin f_add (mx_putf 43 0 (fun _ => rfl) (mx_load 0 (mx_getf 43 1 (mx_store 1 (mx_load 0 (mx_getf 43 2 (mx_store 2 (mx_go 20))))))))))))
noncomputable def bJ6_clear_20 : tX := mx_load 0 (mx_push 0 (mx_dupx1 (mx_putf 43 2 (fun _ => rfl) (mx_store 3 (mx_go 27)))))
noncomputable def bJ6_clear_27 : tX := mx_load 3 (mx_load 2 (mi_ge (mx_go 42) (mx_go 32)))
noncomputable def bJ6_clear_32 : tX := mx_load 1 (mx_load 3 (mx_push 0 (mx_aastO (mx_iinc 3 1 (mx_go 27)))))
noncomputable def bJ6_clear_42 : tX := mx_retv
noncomputable def tbJ6_clear : List tTe := [(0, ([(0, 2)], []), bJ6_clear_0), (20, ([(0, 2), (1, 2), (2, 0)], []), bJ6_clear_20), (27, ([(0, 2), (1, 2), (2, 0), (3, 0)], []), bJ6_clear_27), (32, ([(0, 2), (1, 2), (2, 0), (3, 0)], []), bJ6_clear_32), (42, ([(0, 2), (1, 2), (2, 0), (3, 0)], []), bJ6_clear_42)]
noncomputable def bkJ6_clear : Nat → tX := tBk tbJ6_clear
noncomputable def fJ6_clear : tFn := tFN [2] 4 bkJ6_clear
noncomputable def eJ6_clear (D : tD) (b0 : Nat) : tM := (cJ6_clear, 4, RJ6, tTy tbJ6_clear, D, b0, 0, 0, none, false, [])
noncomputable def opsJ6_clear : List tOpE := [(.dup, 1, [2], [2, 2], mx_dup), (.getfield 63, 3, [2], [0], mx_getf 43 0), (.iconst 1, 1, [], [0], mx_push 1), (.iadd, 1, [0, 0], [0], mx_bin f_add), (.putfield 63, 3, [0, 2], [], mx_putf 43 0 (fun _ => rfl)), (.getfield 9, 3, [2], [2], mx_getf 43 1), (.getfield 48, 3, [2], [0], mx_getf 43 2), (.iconst 0, 1, [], [0], mx_push 0), (.dup_x1, 1, [0, 2], [0, 2, 0], mx_dupx1), (.putfield 48, 3, [0, 2], [], mx_putf 43 2 (fun _ => rfl)), (.aconst_null, 1, [], [2], mx_push 0), (.aastore, 1, [2, 0, 2], [], mx_aastO)]
theorem okJ6_clear (D : tD) (b0 : Nat) : ∀ q ∈ opsJ6_clear, OpOK (eJ6_clear D b0) q := (List.forall_mem_cons.mpr ⟨opk_dup2_, (List.forall_mem_cons.mpr ⟨opk_getf 43 0 0 rfl (Nat.le_of_ble_eq_true rfl) (Nat.le_of_ble_eq_true rfl) q404 (Or.inr q405) rfl, (List.forall_mem_cons.mpr ⟨opk_iconst 1, (List.forall_mem_cons.mpr ⟨opk_iadd, (List.forall_mem_cons.mpr ⟨opk_putf 43 0 0 rfl (Nat.le_of_ble_eq_true rfl) (Nat.le_of_ble_eq_true rfl) q404 (Or.inr q405) (Or.inl rfl) rfl, (List.forall_mem_cons.mpr ⟨opk_getf 43 1 2 rfl (Nat.le_of_ble_eq_true rfl) (Nat.le_of_ble_eq_true rfl) q401 (Or.inl rfl) rfl, (List.forall_mem_cons.mpr ⟨opk_getf 43 2 0 rfl (Nat.le_of_ble_eq_true rfl) (Nat.le_of_ble_eq_true rfl) q402 (Or.inl rfl) rfl, (List.forall_mem_cons.mpr ⟨opk_iconst 0, (List.forall_mem_cons.mpr ⟨(fun pc lt ts K hd hst hK => ms_dupx1 (by decide) (by decide) hd hK), (List.forall_mem_cons.mpr ⟨opk_putf 43 2 0 rfl (Nat.le_of_ble_eq_true rfl) (Nat.le_of_ble_eq_true rfl) q402 (Or.inl rfl) (Or.inl rfl) rfl, (List.forall_mem_cons.mpr ⟨opk_null, (List.forall_mem_cons.mpr ⟨(fun pc lt ts K hd hst hK => ms_aastO hd hK), (fun q hq => by cases hq)⟩)⟩)⟩)⟩)⟩)⟩)⟩)⟩)⟩)⟩)⟩)⟩)
theorem ckJ6_clear_0 : ckS (tBy cJ6_clear) opsJ6_clear 4 [(1, 0, 2), (0, 0, 0), (0, 1, 0), (0, 2, 0), (0, 3, 0), (0, 4, 0), (1, 0, 2), (0, 5, 0), (2, 1, 2), (1, 0, 2), (0, 6, 0), (2, 2, 0)] 0 [(0, 2)] [] = some (20, [(2, 0), (1, 2), (0, 2)], []) := by decide +kernel
theorem hsJ6_clear_0 (D : tD) (b0 : Nat) : tSx (eJ6_clear D b0) 0 [(0, 2)] [] bJ6_clear_0 := ckS_ok (E := eJ6_clear D b0) (T := mx_go 20) (okJ6_clear D b0) ckJ6_clear_0 (ms_at rfl rfl)
theorem ckJ6_clear_20 : ckS (tBy cJ6_clear) opsJ6_clear 4 [(1, 0, 2), (0, 7, 0), (0, 8, 0), (0, 9, 0), (2, 3, 0)] 20 [(0, 2), (1, 2), (2, 0)] [] = some (27, [(3, 0), (0, 2), (1, 2), (2, 0)], []) := by decide +kernel
theorem hsJ6_clear_20 (D : tD) (b0 : Nat) : tSx (eJ6_clear D b0) 20 [(0, 2), (1, 2), (2, 0)] [] bJ6_clear_20 := ckS_ok (E := eJ6_clear D b0) (T := mx_go 27) (okJ6_clear D b0) ckJ6_clear_20 (ms_at rfl rfl)
theorem ckJ6_clear_27 : ckS (tBy cJ6_clear) opsJ6_clear 4 [(1, 3, 0), (1, 2, 0)] 27 [(0, 2), (1, 2), (2, 0), (3, 0)] [] = some (29, [(0, 2), (1, 2), (2, 0), (3, 0)], [0, 0]) := by decide +kernel
theorem hsJ6_clear_27 (D : tD) (b0 : Nat) : tSx (eJ6_clear D b0) 27 [(0, 2), (1, 2), (2, 0), (3, 0)] [] bJ6_clear_27 := ckS_ok (E := eJ6_clear D b0) (T := mi_ge (mx_go 42) (mx_go 32)) (okJ6_clear D b0) ckJ6_clear_27 (ms_icmp_ge 42 (tDe (c := cJ6_clear) (pc := 29) (i := .if_icmp .ge 13) (n := 3) (by decide +kernel)) rfl (ms_at rfl rfl) (ms_at rfl rfl))
theorem ckJ6_clear_32 : ckS (tBy cJ6_clear) opsJ6_clear 4 [(1, 1, 2), (1, 3, 0), (0, 10, 0), (0, 11, 0), (3, 3, 1)] 32 [(0, 2), (1, 2), (2, 0), (3, 0)] [] = some (39, [(3, 0), (0, 2), (1, 2), (2, 0)], []) := by decide +kernel
theorem hsJ6_clear_32 (D : tD) (b0 : Nat) : tSx (eJ6_clear D b0) 32 [(0, 2), (1, 2), (2, 0), (3, 0)] [] bJ6_clear_32 := ckS_ok (E := eJ6_clear D b0) (T := mx_go 27) (okJ6_clear D b0) ckJ6_clear_32 (ms_goto 27 (tDe (c := cJ6_clear) (pc := 39) (i := .goto (-12)) (n := 3) (by decide +kernel)) rfl (ms_at rfl rfl))
theorem hsJ6_clear_42 (D : tD) (b0 : Nat) : tSx (eJ6_clear D b0) 42 [(0, 2), (1, 2), (2, 0), (3, 0)] [] bJ6_clear_42 := (ms_vret (tDe (c := cJ6_clear) (pc := 42) (i := .return_) (n := 1) (by decide +kernel)) rfl)
theorem sJ6_clear (D : tD) (b0 : Nat) : tMX D b0 yJ6_clear (ws_ yJ6_clear cJ6_clear 4 (none)) (none) [2] 0 0 fJ6_clear :=
  tMX.lim fun n => tMX.of n (te := tTy tbJ6_clear) (ini := false) pfJ6_clear (fun h => by cases h) (Nat.le_of_ble_eq_true rfl) rfl rfl (tTb (E := eJ6_clear D b0) rfl (List.forall_mem_cons.mpr ⟨hsJ6_clear_0 D b0, (List.forall_mem_cons.mpr ⟨hsJ6_clear_20 D b0, (List.forall_mem_cons.mpr ⟨hsJ6_clear_27 D b0, (List.forall_mem_cons.mpr ⟨hsJ6_clear_32 D b0, (List.forall_mem_cons.mpr ⟨hsJ6_clear_42 D b0, (fun q hq => by cases hq)⟩)⟩)⟩)⟩)⟩))
theorem vJ6_clear_0 {R : tQ2} (a0 : Int) (h : tH) (hh : h.2.2.1 a0 = 43 ∧ wR bkJ6_clear 27 [a0, ((tPut h a0 0 ((h.1.1 a0 0) + 1)).1.1 a0 1), ((tPut h a0 0 ((h.1.1 a0 0) + 1)).1.1 a0 2), 0] [] (tPut (tPut h a0 0 ((h.1.1 a0 0) + 1)) a0 2 0) R) : wF fJ6_clear [a0] h R :=
  wF.of (wR.step (match hh with | ⟨g1, H2⟩ => ⟨g1, ⟨g1, ⟨g1, ⟨g1, (show wR bkJ6_clear 20 [a0, ((tPut h a0 0 ((h.1.1 a0 0) + 1)).1.1 a0 1), ((tPut h a0 0 ((h.1.1 a0 0) + 1)).1.1 a0 2), 0] [] (tPut h a0 0 ((h.1.1 a0 0) + 1)) _ from wR.step ⟨g1, H2⟩)⟩⟩⟩⟩))
theorem vJ6_clear_27 {R : tQ2} (l0 l1 l2 l3 : Int) (h : tH) (hh : i32 l3 ∧ i32 l2 ∧ (l2 ≤ l3 → R (false, 0) h) ∧ (¬ (l2 ≤ l3) → h.2.2.1 l1 = 1010 ∧ 0 ≤ l3 ∧ l3 < h.2.1 l1 ∧ wR bkJ6_clear 27 [l0, l1, l2, (l3 + 1)] [] (tPutA h l1 l3 0) R)) : wR bkJ6_clear 27 [l0, l1, l2, l3] [] h R :=
  wR.step (match hh with | ⟨g1, g2, H7, H8⟩ => ⟨⟨g1, g2⟩, fun (c3 : l2 ≤ l3) => (have H9 := (H7 c3); (show wR bkJ6_clear 42 [l0, l1, l2, l3] [] h _ from wR.step H9)), fun (c3 : ¬ (l2 ≤ l3)) => (match (H8 c3) with | ⟨g4, g5, g6, H10⟩ => (show wR bkJ6_clear 32 [l0, l1, l2, l3] [] h _ from wR.step ⟨⟨g4, g5, g6⟩, (Or.inl rfl), H10⟩))⟩)
def yJ8_max : MethodName := ⟨RJ8, "max", "(II)I"⟩
abbrev cJ8_max : ByteArray := prog_56_method_65_code
noncomputable def bJ8_max_0 : tX := mx_load 0 (mx_load 1 (mi_lt (mx_go 9) (mx_go 5)))
noncomputable def bJ8_max_5 : tX := mx_load 0 (mx_go 10)
noncomputable def bJ8_max_9 : tX := mx_load 1 (mx_go 10)
noncomputable def bJ8_max_10 : tX := mx_ret
noncomputable def tbJ8_max : List tTe := [(0, ([(0, 0), (1, 0)], []), bJ8_max_0), (5, ([(0, 0), (1, 0)], []), bJ8_max_5), (9, ([(0, 0), (1, 0)], []), bJ8_max_9), (10, ([(0, 0), (1, 0)], [0]), bJ8_max_10)]
noncomputable def bkJ8_max : Nat → tX := tBk tbJ8_max
noncomputable def fJ8_max : tFn := tFN [0, 0] 2 bkJ8_max
noncomputable def eJ8_max (D : tD) (b0 : Nat) : tM := (cJ8_max, 2, RJ8, tTy tbJ8_max, D, b0, 0, 0, some (.int), false, [])
noncomputable def opsJ8_max : List tOpE := []
theorem okJ8_max (D : tD) (b0 : Nat) : ∀ q ∈ opsJ8_max, OpOK (eJ8_max D b0) q := (fun q hq => by cases hq)
theorem ckJ8_max_0 : ckS (tBy cJ8_max) opsJ8_max 2 [(1, 0, 0), (1, 1, 0)] 0 [(0, 0), (1, 0)] [] = some (2, [(0, 0), (1, 0)], [0, 0]) := by decide +kernel
theorem hsJ8_max_0 (D : tD) (b0 : Nat) : tSx (eJ8_max D b0) 0 [(0, 0), (1, 0)] [] bJ8_max_0 := ckS_ok (E := eJ8_max D b0) (T := mi_lt (mx_go 9) (mx_go 5)) (okJ8_max D b0) ckJ8_max_0 (ms_icmp_lt 9 (tDe (c := cJ8_max) (pc := 2) (i := .if_icmp .lt 7) (n := 3) (by decide +kernel)) rfl (ms_at rfl rfl) (ms_at rfl rfl))
theorem ckJ8_max_5 : ckS (tBy cJ8_max) opsJ8_max 2 [(1, 0, 0)] 5 [(0, 0), (1, 0)] [] = some (6, [(0, 0), (1, 0)], [0]) := by decide +kernel
theorem hsJ8_max_5 (D : tD) (b0 : Nat) : tSx (eJ8_max D b0) 5 [(0, 0), (1, 0)] [] bJ8_max_5 := ckS_ok (E := eJ8_max D b0) (T := mx_go 10) (okJ8_max D b0) ckJ8_max_5 (ms_goto 10 (tDe (c := cJ8_max) (pc := 6) (i := .goto 4) (n := 3) (by decide +kernel)) rfl (ms_at rfl rfl))
theorem ckJ8_max_9 : ckS (tBy cJ8_max) opsJ8_max 2 [(1, 1, 0)] 9 [(0, 0), (1, 0)] [] = some (10, [(0, 0), (1, 0)], [0]) := by decide +kernel
theorem hsJ8_max_9 (D : tD) (b0 : Nat) : tSx (eJ8_max D b0) 9 [(0, 0), (1, 0)] [] bJ8_max_9 := ckS_ok (E := eJ8_max D b0) (T := mx_go 10) (okJ8_max D b0) ckJ8_max_9 (ms_at rfl rfl)
theorem hsJ8_max_10 (D : tD) (b0 : Nat) : tSx (eJ8_max D b0) 10 [(0, 0), (1, 0)] [0] bJ8_max_10 := (ms_iret (tDe (c := cJ8_max) (pc := 10) (i := .ireturn) (n := 1) (by decide +kernel)) rfl)
theorem sJ8_max (D : tD) (b0 : Nat) : tMX D b0 yJ8_max (ws_ yJ8_max cJ8_max 2 (some (.int))) (some (.int)) [0, 0] 0 0 fJ8_max :=
  tMX.lim fun n => tMX.of n (te := tTy tbJ8_max) (ini := false) pfJ8_max (fun h => by cases h) (Nat.le_of_ble_eq_true rfl) rfl rfl (tTb (E := eJ8_max D b0) rfl (List.forall_mem_cons.mpr ⟨hsJ8_max_0 D b0, (List.forall_mem_cons.mpr ⟨hsJ8_max_5 D b0, (List.forall_mem_cons.mpr ⟨hsJ8_max_9 D b0, (List.forall_mem_cons.mpr ⟨hsJ8_max_10 D b0, (fun q hq => by cases hq)⟩)⟩)⟩)⟩))
def fgJ8_max : List Int → tH → Prop := fun as h => match as with
  | [a0, a1] => i32 a0 ∧ i32 a1
  | _ => False
def fvJ8_max : List Int → tH → Int := fun as h => match as with
  | [a0, a1] => (if a0 < a1 then a1 else a0)
  | _ => 0
def fhJ8_max : List Int → tH → tH := fun as h => h
theorem zJ8_max : tZ fJ8_max fgJ8_max fvJ8_max fhJ8_max := fun as h hg => match as, hg with
  | [a0, a1], hg => by
    obtain ⟨v, h2, hF, rfl, rfl⟩ := wN.of (ks := [0, 0]) (nL := 2) (Bk := bkJ8_max) (as := [a0, a1]) (h := h) (Q := fun v h2 => v = fvJ8_max [a0, a1] h ∧ h2 = fhJ8_max [a0, a1] h) (wR.step (have Ec0 : fvJ8_max [a0, a1] h = (if a0 < a1 then a1 else a0) := rfl; (match hg with | ⟨g1, g2⟩ => ⟨⟨g1, g2⟩, fun (c3 : a0 < a1) => have Ec3 := Ec0.trans (if_pos c3); (show wR bkJ8_max 9 [a0, a1] [] h _ from wR.step (show wR bkJ8_max 10 [a0, a1] [a1] h _ from wR.step ⟨rfl, Ec3.symm, rfl⟩)), fun (c3 : ¬ (a0 < a1)) => have Ec3 := Ec0.trans (if_neg c3); (show wR bkJ8_max 5 [a0, a1] [] h _ from wR.step (show wR bkJ8_max 10 [a0, a1] [a0] h _ from wR.step ⟨rfl, Ec3.symm, rfl⟩))⟩)))
    exact hF
  | [], hg => hg.elim
  | [_], hg => hg.elim
  | _ :: _ :: _ :: _, hg => hg.elim
def yJ7_newLength : MethodName := ⟨RJ7, "newLength", "(III)I"⟩
abbrev cJ7_newLength : ByteArray := prog_78_method_27_code
noncomputable def bJ7_newLength_0 : tX := mx_load 0 (mx_load 1 (mx_load 2 (mx_callZ fJ8_max zJ8_max 2 (mx_bin f_add (mx_store 3 (mx_go 8))))))
noncomputable def bJ7_newLength_8 : tX := mx_push 0 (mx_load 3 (mi_ge mx_none (mx_go 13)))
noncomputable def bJ7_newLength_13 : tX := mx_load 3 (mx_push 2147483639 (mi_gt mx_none (mx_go 19)))
noncomputable def bJ7_newLength_19 : tX := mx_load 3 (mx_ret)
noncomputable def tbJ7_newLength : List tTe := [(0, ([(0, 0), (1, 0), (2, 0)], []), bJ7_newLength_0), (8, ([(0, 0), (1, 0), (2, 0), (3, 0)], []), bJ7_newLength_8), (13, ([(0, 0), (1, 0), (2, 0), (3, 0)], []), bJ7_newLength_13), (19, ([(0, 0), (1, 0), (2, 0), (3, 0)], []), bJ7_newLength_19)]
noncomputable def bkJ7_newLength : Nat → tX := tBk tbJ7_newLength
noncomputable def fJ7_newLength : tFn := tFN [0, 0, 0] 4 bkJ7_newLength
noncomputable def eJ7_newLength (D : tD) (b0 : Nat) : tM := (cJ7_newLength, 4, RJ7, tTy tbJ7_newLength, D, b0, 1, 45, some (.int), false, [])
noncomputable def opsJ7_newLength : List tOpE := [(.invokestatic 194, 3, [0, 0], [0], mx_callZ fJ8_max zJ8_max 2), (.iadd, 1, [0, 0], [0], mx_bin f_add), (.iconst 0, 1, [], [0], mx_push 0), (.ldc 200, 2, [], [0], mx_push 2147483639)]
theorem okJ7_newLength (D : tD) (b0 : Nat) : ∀ q ∈ opsJ7_newLength, OpOK (eJ7_newLength D b0) q := (List.forall_mem_cons.mpr ⟨(fun pc lt ts K hd hst hK => ms_callSZ (hz := zJ8_max) [0, 0] ts (sJ8_max D b0) q1268 q1269 q222 q1270 hcJ8 pd__pII_qI (Nat.le_of_ble_eq_true rfl) (Nat.le_trans (Nat.add_le_add_right (Nat.add_le_add_right hst _) _) (Nat.le_of_ble_eq_true rfl)) rfl rfl rfl rfl hd hK), (List.forall_mem_cons.mpr ⟨opk_iadd, (List.forall_mem_cons.mpr ⟨opk_iconst 0, (List.forall_mem_cons.mpr ⟨opk_ldc q1271 kc_2147483639, (fun q hq => by cases hq)⟩)⟩)⟩)⟩)
theorem ckJ7_newLength_0 : ckS (tBy cJ7_newLength) opsJ7_newLength 4 [(1, 0, 0), (1, 1, 0), (1, 2, 0), (0, 0, 0), (0, 1, 0), (2, 3, 0)] 0 [(0, 0), (1, 0), (2, 0)] [] = some (8, [(3, 0), (0, 0), (1, 0), (2, 0)], []) := by decide +kernel
theorem hsJ7_newLength_0 (D : tD) (b0 : Nat) : tSx (eJ7_newLength D b0) 0 [(0, 0), (1, 0), (2, 0)] [] bJ7_newLength_0 := ckS_ok (E := eJ7_newLength D b0) (T := mx_go 8) (okJ7_newLength D b0) ckJ7_newLength_0 (ms_at rfl rfl)
theorem ckJ7_newLength_8 : ckS (tBy cJ7_newLength) opsJ7_newLength 4 [(0, 2, 0), (1, 3, 0)] 8 [(0, 0), (1, 0), (2, 0), (3, 0)] [] = some (10, [(0, 0), (1, 0), (2, 0), (3, 0)], [0, 0]) := by decide +kernel
theorem hsJ7_newLength_8 (D : tD) (b0 : Nat) : tSx (eJ7_newLength D b0) 8 [(0, 0), (1, 0), (2, 0), (3, 0)] [] bJ7_newLength_8 := ckS_ok (E := eJ7_newLength D b0) (T := mi_ge mx_none (mx_go 13)) (okJ7_newLength D b0) ckJ7_newLength_8 (ms_icmp_ge 21 (tDe (c := cJ7_newLength) (pc := 10) (i := .if_icmp .ge 11) (n := 3) (by decide +kernel)) rfl ms_none (ms_at rfl rfl))
theorem ckJ7_newLength_13 : ckS (tBy cJ7_newLength) opsJ7_newLength 4 [(1, 3, 0), (0, 3, 0)] 13 [(0, 0), (1, 0), (2, 0), (3, 0)] [] = some (16, [(0, 0), (1, 0), (2, 0), (3, 0)], [0, 0]) := by decide +kernel
theorem hsJ7_newLength_13 (D : tD) (b0 : Nat) : tSx (eJ7_newLength D b0) 13 [(0, 0), (1, 0), (2, 0), (3, 0)] [] bJ7_newLength_13 := ckS_ok (E := eJ7_newLength D b0) (T := mi_gt mx_none (mx_go 19)) (okJ7_newLength D b0) ckJ7_newLength_13 (ms_icmp_gt 21 (tDe (c := cJ7_newLength) (pc := 16) (i := .if_icmp .gt 5) (n := 3) (by decide +kernel)) rfl ms_none (ms_at rfl rfl))
theorem ckJ7_newLength_19 : ckS (tBy cJ7_newLength) opsJ7_newLength 4 [(1, 3, 0)] 19 [(0, 0), (1, 0), (2, 0), (3, 0)] [] = some (20, [(0, 0), (1, 0), (2, 0), (3, 0)], [0]) := by decide +kernel
theorem hsJ7_newLength_19 (D : tD) (b0 : Nat) : tSx (eJ7_newLength D b0) 19 [(0, 0), (1, 0), (2, 0), (3, 0)] [] bJ7_newLength_19 := ckS_ok (E := eJ7_newLength D b0) (T := mx_ret) (okJ7_newLength D b0) ckJ7_newLength_19 (ms_iret (tDe (c := cJ7_newLength) (pc := 20) (i := .ireturn) (n := 1) (by decide +kernel)) rfl)
theorem sJ7_newLength (D : tD) (b0 : Nat) : tMX D b0 yJ7_newLength (ws_ yJ7_newLength cJ7_newLength 4 (some (.int))) (some (.int)) [0, 0, 0] 1 45 fJ7_newLength :=
  tMX.lim fun n => tMX.of n (te := tTy tbJ7_newLength) (ini := false) pfJ7_newLength (fun h => by cases h) (Nat.le_of_ble_eq_true rfl) rfl rfl (tTb (E := eJ7_newLength D b0) rfl (List.forall_mem_cons.mpr ⟨hsJ7_newLength_0 D b0, (List.forall_mem_cons.mpr ⟨hsJ7_newLength_8 D b0, (List.forall_mem_cons.mpr ⟨hsJ7_newLength_13 D b0, (List.forall_mem_cons.mpr ⟨hsJ7_newLength_19 D b0, (fun q hq => by cases hq)⟩)⟩)⟩)⟩))
def fgJ7_newLength : List Int → tH → Prop := fun as h => match as with
  | [a0, a1, a2] => fgJ8_max [a1, a2] h ∧ i32 (a0 + (fvJ8_max [a1, a2] h)) ∧ ((a0 + (fvJ8_max [a1, a2] h)) ≤ 0 → False) ∧ (¬ ((a0 + (fvJ8_max [a1, a2] h)) ≤ 0) → (2147483639 < (a0 + (fvJ8_max [a1, a2] h)) → False))
  | _ => False
def fvJ7_newLength : List Int → tH → Int := fun as h => match as with
  | [a0, a1, a2] => (if (a0 + (fvJ8_max [a1, a2] h)) ≤ 0 then 0 else (if 2147483639 < (a0 + (fvJ8_max [a1, a2] h)) then 0 else (a0 + (fvJ8_max [a1, a2] h))))
  | _ => 0
def fhJ7_newLength : List Int → tH → tH := fun as h => h
theorem zJ7_newLength : tZ fJ7_newLength fgJ7_newLength fvJ7_newLength fhJ7_newLength := fun as h hg => match as, hg with
  | [a0, a1, a2], hg => by
    obtain ⟨v, h2, hF, rfl, rfl⟩ := wN.of (ks := [0, 0, 0]) (nL := 4) (Bk := bkJ7_newLength) (as := [a0, a1, a2]) (h := h) (Q := fun v h2 => v = fvJ7_newLength [a0, a1, a2] h ∧ h2 = fhJ7_newLength [a0, a1, a2] h) (wR.step (have Ec0 : fvJ7_newLength [a0, a1, a2] h = (if (a0 + (fvJ8_max [a1, a2] h)) ≤ 0 then 0 else (if 2147483639 < (a0 + (fvJ8_max [a1, a2] h)) then 0 else (a0 + (fvJ8_max [a1, a2] h)))) := rfl; (match hg with | ⟨g1, g2, H5, H6⟩ => ⟨g1, (show wR bkJ7_newLength 8 [a0, a1, a2, (a0 + (fvJ8_max [a1, a2] h))] [] h _ from wR.step ⟨⟨l32_0, g2⟩, fun (c3 : (a0 + (fvJ8_max [a1, a2] h)) ≤ 0) => have Ec3 := Ec0.trans (if_pos c3); (have H7 := (H5 c3); H7), fun (c3 : ¬ ((a0 + (fvJ8_max [a1, a2] h)) ≤ 0)) => have Ec3 := Ec0.trans (if_neg c3); (have H8 := (H6 c3); (show wR bkJ7_newLength 13 [a0, a1, a2, (a0 + (fvJ8_max [a1, a2] h))] [] h _ from wR.step ⟨⟨g2, l32_2147483639⟩, fun (c4 : 2147483639 < (a0 + (fvJ8_max [a1, a2] h))) => have Ec4 := Ec3.trans (if_pos c4); (have H9 := (H8 c4); H9), fun (c4 : ¬ (2147483639 < (a0 + (fvJ8_max [a1, a2] h)))) => have Ec4 := Ec3.trans (if_neg c4); (show wR bkJ7_newLength 19 [a0, a1, a2, (a0 + (fvJ8_max [a1, a2] h))] [] h _ from wR.step ⟨rfl, Ec4.symm, rfl⟩)⟩))⟩)⟩)))
    exact hF
  | [], hg => hg.elim
  | [_], hg => hg.elim
  | [_, _], hg => hg.elim
  | _ :: _ :: _ :: _ :: _, hg => hg.elim
def yJ9_copyOf_2 : MethodName := ⟨RJ9, "copyOf", "([Ljava/lang/Object;ILjava/lang/Class;)[Ljava/lang/Object;"⟩
abbrev cJ9_copyOf_2 : ByteArray := prog_71_method_120_code
noncomputable def bJ9_copyOf_2_0 : tX := mx_load 2 (mx_gets 4 (ma_ne mx_none (mx_go 6)))
noncomputable def bJ9_copyOf_2_6 : tX := mx_load 1 (mx_newa 10 (mx_go 24))
noncomputable def bJ9_copyOf_2_24 : tX := mx_store 3 (mx_load 0 (mx_push 0 (mx_load 3 (mx_push 0 (mx_load 0 (mx_alen 10 (mx_load 1 (mx_callZ fJ8_min zJ8_min 2 (mx_copy (fun h v => v = 0 ∨ (xO (h.2.2.1 v)).isSome = true) 10 (mx_go 38))))))))))
noncomputable def bJ9_copyOf_2_38 : tX := mx_load 3 (mx_ret)
noncomputable def tbJ9_copyOf_2 : List tTe := [(0, ([(0, 2), (1, 0), (2, 2)], []), bJ9_copyOf_2_0), (6, ([(0, 2), (1, 0), (2, 2)], []), bJ9_copyOf_2_6), (24, ([(0, 2), (1, 0), (2, 2)], [2]), bJ9_copyOf_2_24), (38, ([(0, 2), (1, 0), (2, 2), (3, 2)], []), bJ9_copyOf_2_38)]
noncomputable def bkJ9_copyOf_2 : Nat → tX := tBk tbJ9_copyOf_2
noncomputable def fJ9_copyOf_2 : tFn := tFN [2, 0, 2] 4 bkJ9_copyOf_2
noncomputable def eJ9_copyOf_2 (D : tD) (b0 : Nat) : tM := (cJ9_copyOf_2, 4, RJ9, tTy tbJ9_copyOf_2, D, b0, 1, 59, some (.array (.object "java/lang/Object")), false, [])
noncomputable def opsJ9_copyOf_2 : List tOpE := [(.ldc 110, 2, [], [2], mx_gets 4), (.anewarray 2, 3, [0], [2], mx_newa 10), (.iconst 0, 1, [], [0], mx_push 0), (.arraylength, 1, [2], [0], mx_alen 10), (.invokestatic 304, 3, [0, 0], [0], mx_callZ fJ8_min zJ8_min 2), (.invokestatic 150, 3, [0, 0, 2, 0, 2], [], mx_copy (fun h v => v = 0 ∨ (xO (h.2.2.1 v)).isSome = true) 10)]
theorem okJ9_copyOf_2 (D : tD) (b0 : Nat) : ∀ q ∈ opsJ9_copyOf_2, OpOK (eJ9_copyOf_2 D b0) q := (List.forall_mem_cons.mpr ⟨(fun pc lt ts K hd hst hK => ms_ldcM q1332 hd hK), (List.forall_mem_cons.mpr ⟨(fun pc lt ts K hd hst hK => ms_anewO 10 (Nat.le_of_ble_eq_true rfl) rfl q1333 q398 hd hK), (List.forall_mem_cons.mpr ⟨opk_iconst 0, (List.forall_mem_cons.mpr ⟨opk_alen 10 (Nat.le_of_ble_eq_true rfl) rfl, (List.forall_mem_cons.mpr ⟨(fun pc lt ts K hd hst hK => ms_callSZ (hz := zJ8_min) [0, 0] ts (sJ8_min D b0) q1334 q1335 q222 q1336 hcJ8 pd__pII_qI (Nat.le_of_ble_eq_true rfl) (Nat.le_trans (Nat.add_le_add_right (Nat.add_le_add_right hst _) _) (Nat.le_of_ble_eq_true rfl)) rfl rfl rfl rfl hd hK), (List.forall_mem_cons.mpr ⟨(fun pc lt ts K hd hst hK => ms_copy 10 (Nat.le_of_ble_eq_true rfl) rfl cpO_ok q1337 q1339 q1338 q224 (Nat.le_of_ble_eq_true rfl) (Nat.le_trans (Nat.add_le_add_right hst _) (Nat.le_of_ble_eq_true rfl)) hd hK), (fun q hq => by cases hq)⟩)⟩)⟩)⟩)⟩)⟩)
theorem ckJ9_copyOf_2_0 : ckS (tBy cJ9_copyOf_2) opsJ9_copyOf_2 4 [(1, 2, 2), (0, 0, 0)] 0 [(0, 2), (1, 0), (2, 2)] [] = some (3, [(0, 2), (1, 0), (2, 2)], [2, 2]) := by decide +kernel
theorem hsJ9_copyOf_2_0 (D : tD) (b0 : Nat) : tSx (eJ9_copyOf_2 D b0) 0 [(0, 2), (1, 0), (2, 2)] [] bJ9_copyOf_2_0 := ckS_ok (E := eJ9_copyOf_2 D b0) (T := ma_ne mx_none (mx_go 6)) (okJ9_copyOf_2 D b0) ckJ9_copyOf_2_0 (ms_acmp_ne 13 (by decide +kernel : decode cJ9_copyOf_2 3 = .ok (.if_acmp .ne 10, 3)) rfl ms_none (ms_at rfl rfl))
theorem ckJ9_copyOf_2_6 : ckS (tBy cJ9_copyOf_2) opsJ9_copyOf_2 4 [(1, 1, 0), (0, 1, 0)] 6 [(0, 2), (1, 0), (2, 2)] [] = some (10, [(0, 2), (1, 0), (2, 2)], [2]) := by decide +kernel
theorem hsJ9_copyOf_2_6 (D : tD) (b0 : Nat) : tSx (eJ9_copyOf_2 D b0) 6 [(0, 2), (1, 0), (2, 2)] [] bJ9_copyOf_2_6 := ckS_ok (E := eJ9_copyOf_2 D b0) (T := mx_go 24) (okJ9_copyOf_2 D b0) ckJ9_copyOf_2_6 (ms_goto 24 (tDe (c := cJ9_copyOf_2) (pc := 10) (i := .goto 14) (n := 3) (by decide +kernel)) rfl (ms_at rfl rfl))
theorem ckJ9_copyOf_2_24 : ckS (tBy cJ9_copyOf_2) opsJ9_copyOf_2 4 [(2, 3, 2), (1, 0, 2), (0, 2, 0), (1, 3, 2), (0, 2, 0), (1, 0, 2), (0, 3, 0), (1, 1, 0), (0, 4, 0), (0, 5, 0)] 24 [(0, 2), (1, 0), (2, 2)] [2] = some (38, [(3, 2), (0, 2), (1, 0), (2, 2)], []) := by decide +kernel
theorem hsJ9_copyOf_2_24 (D : tD) (b0 : Nat) : tSx (eJ9_copyOf_2 D b0) 24 [(0, 2), (1, 0), (2, 2)] [2] bJ9_copyOf_2_24 := ckS_ok (E := eJ9_copyOf_2 D b0) (T := mx_go 38) (okJ9_copyOf_2 D b0) ckJ9_copyOf_2_24 (ms_at rfl rfl)
theorem ckJ9_copyOf_2_38 : ckS (tBy cJ9_copyOf_2) opsJ9_copyOf_2 4 [(1, 3, 2)] 38 [(0, 2), (1, 0), (2, 2), (3, 2)] [] = some (39, [(0, 2), (1, 0), (2, 2), (3, 2)], [2]) := by decide +kernel
theorem hsJ9_copyOf_2_38 (D : tD) (b0 : Nat) : tSx (eJ9_copyOf_2 D b0) 38 [(0, 2), (1, 0), (2, 2), (3, 2)] [] bJ9_copyOf_2_38 := ckS_ok (E := eJ9_copyOf_2 D b0) (T := mx_ret) (okJ9_copyOf_2 D b0) ckJ9_copyOf_2_38 (ms_aret _ (tDe (c := cJ9_copyOf_2) (pc := 39) (i := .areturn) (n := 1) (by decide +kernel)) rfl (Or.inr ⟨_, rfl⟩))
theorem sJ9_copyOf_2 (D : tD) (b0 : Nat) : tMX D b0 yJ9_copyOf_2 (ws_ yJ9_copyOf_2 cJ9_copyOf_2 4 (some (.array (.object "java/lang/Object")))) (some (.array (.object "java/lang/Object"))) [2, 0, 2] 1 59 fJ9_copyOf_2 :=
  tMX.lim fun n => tMX.of n (te := tTy tbJ9_copyOf_2) (ini := false) pfJ9_copyOf_2 (fun h => by cases h) (Nat.le_of_ble_eq_true rfl) rfl rfl (tTb (E := eJ9_copyOf_2 D b0) rfl (List.forall_mem_cons.mpr ⟨hsJ9_copyOf_2_0 D b0, (List.forall_mem_cons.mpr ⟨hsJ9_copyOf_2_6 D b0, (List.forall_mem_cons.mpr ⟨hsJ9_copyOf_2_24 D b0, (List.forall_mem_cons.mpr ⟨hsJ9_copyOf_2_38 D b0, (fun q hq => by cases hq)⟩)⟩)⟩)⟩))
def fgJ9_copyOf_2 : List Int → tH → Prop := fun as h => match as with
  | [a0, a1, a2] => 0 ≤ a2 ∧ 0 ≤ (h.1.1 0 4) ∧ (¬ a2 = (h.1.1 0 4) → False) ∧ (¬ (¬ a2 = (h.1.1 0 4)) → 0 ≤ a1 ∧ a1 ≤ 67108864 ∧ (tNew h 1010 a1 a1).2.2.1 a0 = 1010 ∧ fgJ8_min [((tNew h 1010 a1 a1).2.1 a0), a1] (tNew h 1010 a1 a1) ∧ cpG (fun h v => v = 0 ∨ (xO (h.2.2.1 v)).isSome = true) 10 (tNew h 1010 a1 a1) a0 0 h.2.2.2.1 0 (fvJ8_min [((tNew h 1010 a1 a1).2.1 a0), a1] (tNew h 1010 a1 a1)))
  | _ => False
def fvJ9_copyOf_2 : List Int → tH → Int := fun as h => match as with
  | [a0, a1, a2] => (if ¬ a2 = (h.1.1 0 4) then 0 else h.2.2.2.1)
  | _ => 0
def fhJ9_copyOf_2 : List Int → tH → tH := fun as h => match as with
  | [a0, a1, a2] => (tCp (tNew h 1010 a1 a1) a0 0 h.2.2.2.1 0 (fvJ8_min [((tNew h 1010 a1 a1).2.1 a0), a1] (tNew h 1010 a1 a1)))
  | _ => h
theorem zJ9_copyOf_2 : tZ fJ9_copyOf_2 fgJ9_copyOf_2 fvJ9_copyOf_2 fhJ9_copyOf_2 := fun as h hg => match as, hg with
  | [a0, a1, a2], hg => by
    obtain ⟨v, h2, hF, rfl, rfl⟩ := wN.of (ks := [2, 0, 2]) (nL := 4) (Bk := bkJ9_copyOf_2) (as := [a0, a1, a2]) (h := h) (Q := fun v h2 => v = fvJ9_copyOf_2 [a0, a1, a2] h ∧ h2 = fhJ9_copyOf_2 [a0, a1, a2] h) (wR.step (have Ec0 : fvJ9_copyOf_2 [a0, a1, a2] h = (if ¬ a2 = (h.1.1 0 4) then 0 else h.2.2.2.1) := rfl; (match hg with | ⟨g1, g2, H9, H10⟩ => ⟨⟨g1, g2⟩, fun (c3 : ¬ a2 = (h.1.1 0 4)) => have Ec3 := Ec0.trans (if_pos c3); (have H11 := (H9 c3); H11), fun (c3 : ¬ (¬ a2 = (h.1.1 0 4))) => have Ec3 := Ec0.trans (if_neg c3); (match (H10 c3) with | ⟨g4, g5, g6, g7, g8⟩ => (show wR bkJ9_copyOf_2 6 [a0, a1, a2, 0] [] h _ from wR.step ⟨⟨g4, g5⟩, (show wR bkJ9_copyOf_2 24 [a0, a1, a2, 0] [h.2.2.2.1] (tNew h 1010 a1 a1) _ from wR.step ⟨g6, ⟨g7, ⟨g8, (show wR bkJ9_copyOf_2 38 [a0, a1, a2, h.2.2.2.1] [] (tCp (tNew h 1010 a1 a1) a0 0 h.2.2.2.1 0 (fvJ8_min [((tNew h 1010 a1 a1).2.1 a0), a1] (tNew h 1010 a1 a1))) _ from wR.step ⟨rfl, Ec3.symm, rfl⟩)⟩⟩⟩)⟩))⟩)))
    exact hF
  | [], hg => hg.elim
  | [_], hg => hg.elim
  | [_, _], hg => hg.elim
  | _ :: _ :: _ :: _ :: _, hg => hg.elim
def yJ9_copyOf : MethodName := ⟨RJ9, "copyOf", "([Ljava/lang/Object;I)[Ljava/lang/Object;"⟩
abbrev cJ9_copyOf : ByteArray := prog_71_method_119_code
noncomputable def bJ9_copyOf_0 : tX := mx_load 0 (mx_load 1 (mx_load 0 (mx_getC (mx_callZ fJ9_copyOf_2 zJ9_copyOf_2 3 (mx_ret)))))
noncomputable def tbJ9_copyOf : List tTe := [(0, ([(0, 2), (1, 0)], []), bJ9_copyOf_0)]
noncomputable def bkJ9_copyOf : Nat → tX := tBk tbJ9_copyOf
noncomputable def fJ9_copyOf : tFn := tFN [2, 0] 2 bkJ9_copyOf
noncomputable def eJ9_copyOf (D : tD) (b0 : Nat) : tM := (cJ9_copyOf, 2, RJ9, tTy tbJ9_copyOf, D, b0, 2, 106, some (.array (.object "java/lang/Object")), false, [])
noncomputable def opsJ9_copyOf : List tOpE := [(.invokevirtual 86, 3, [2], [2], mx_getC), (.invokestatic 300, 3, [2, 0, 2], [2], mx_callZ fJ9_copyOf_2 zJ9_copyOf_2 3)]
theorem okJ9_copyOf (D : tD) (b0 : Nat) : ∀ q ∈ opsJ9_copyOf, OpOK (eJ9_copyOf D b0) q := (List.forall_mem_cons.mpr ⟨(fun pc lt ts K hd hst hK => ms_getC q1278 q4457 q1279 q1328 (Nat.le_of_ble_eq_true rfl) (Nat.le_trans (Nat.add_le_add_right hst _) (Nat.le_of_ble_eq_true rfl)) hd hK), (List.forall_mem_cons.mpr ⟨(fun pc lt ts K hd hst hK => ms_callSZ (hz := zJ9_copyOf_2) [2, 0, 2] ts (sJ9_copyOf_2 D b0) q1329 q1330 q223 q1331 hcJ9 pd__p_aLjava_slang_sObject_cILjava_slang_sClass_c_q_aLjava_slang_sObject_c (Nat.le_of_ble_eq_true rfl) (Nat.le_trans (Nat.add_le_add_right (Nat.add_le_add_right hst _) _) (Nat.le_of_ble_eq_true rfl)) rfl rfl rfl rfl hd hK), (fun q hq => by cases hq)⟩)⟩)
theorem ckJ9_copyOf_0 : ckS (tBy cJ9_copyOf) opsJ9_copyOf 2 [(1, 0, 2), (1, 1, 0), (1, 0, 2), (0, 0, 0), (0, 1, 0)] 0 [(0, 2), (1, 0)] [] = some (9, [(0, 2), (1, 0)], [2]) := by decide +kernel
theorem hsJ9_copyOf_0 (D : tD) (b0 : Nat) : tSx (eJ9_copyOf D b0) 0 [(0, 2), (1, 0)] [] bJ9_copyOf_0 := ckS_ok (E := eJ9_copyOf D b0) (T := mx_ret) (okJ9_copyOf D b0) ckJ9_copyOf_0 (ms_aret _ (tDe (c := cJ9_copyOf) (pc := 9) (i := .areturn) (n := 1) (by decide +kernel)) rfl (Or.inr ⟨_, rfl⟩))
theorem sJ9_copyOf (D : tD) (b0 : Nat) : tMX D b0 yJ9_copyOf (ws_ yJ9_copyOf cJ9_copyOf 2 (some (.array (.object "java/lang/Object")))) (some (.array (.object "java/lang/Object"))) [2, 0] 2 106 fJ9_copyOf :=
  tMX.lim fun n => tMX.of n (te := tTy tbJ9_copyOf) (ini := false) pfJ9_copyOf (fun h => by cases h) (Nat.le_of_ble_eq_true rfl) rfl rfl (tTb (E := eJ9_copyOf D b0) rfl (List.forall_mem_cons.mpr ⟨hsJ9_copyOf_0 D b0, (fun q hq => by cases hq)⟩))
def fgJ9_copyOf : List Int → tH → Prop := fun as h => match as with
  | [a0, a1] => h.2.2.1 a0 = 1010 ∧ fgJ9_copyOf_2 [a0, a1, (h.1.1 0 4)] h
  | _ => False
def fvJ9_copyOf : List Int → tH → Int := fun as h => match as with
  | [a0, a1] => (fvJ9_copyOf_2 [a0, a1, (h.1.1 0 4)] h)
  | _ => 0
def fhJ9_copyOf : List Int → tH → tH := fun as h => match as with
  | [a0, a1] => (fhJ9_copyOf_2 [a0, a1, (h.1.1 0 4)] h)
  | _ => h
theorem zJ9_copyOf : tZ fJ9_copyOf fgJ9_copyOf fvJ9_copyOf fhJ9_copyOf := fun as h hg => match as, hg with
  | [a0, a1], hg => by
    obtain ⟨v, h2, hF, rfl, rfl⟩ := wN.of (ks := [2, 0]) (nL := 2) (Bk := bkJ9_copyOf) (as := [a0, a1]) (h := h) (Q := fun v h2 => v = fvJ9_copyOf [a0, a1] h ∧ h2 = fhJ9_copyOf [a0, a1] h) (wR.step (have Ec0 : fvJ9_copyOf [a0, a1] h = (fvJ9_copyOf_2 [a0, a1, (h.1.1 0 4)] h) := rfl; (match hg with | ⟨g1, g2⟩ => ⟨g1, ⟨g2, ⟨rfl, Ec0.symm, rfl⟩⟩⟩)))
    exact hF
  | [], hg => hg.elim
  | [_], hg => hg.elim
  | _ :: _ :: _ :: _, hg => hg.elim
