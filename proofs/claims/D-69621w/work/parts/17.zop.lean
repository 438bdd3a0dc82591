/-! straight runs of operations, checked by evaluation -/
abbrev tOpE : Type := Instr × Nat × List Nat × List Nat × (tX → tX)
def OpOK (E : tM) (q : tOpE) : Prop := ∀ (pc : Nat) (lt : List (Nat × Nat)) (ts : List Nat) (K : tX), decode (tM.cc E) pc = .ok (q.1, q.2.1) → (ts.map kCat).sum ≤ 32 → tSx E (pc + q.2.1) lt (q.2.2.2.1 ++ ts) K → tSx E pc lt (q.2.2.1 ++ ts) (q.2.2.2.2 K)
def ldI (kd k : Nat) : Instr := match kd with
  | 0 => (if h : k < 4 then .iload_n ⟨k, h⟩ else .iload k)
  | 1 => (if h : k < 4 then .lload_n ⟨k, h⟩ else .lload k)
  | _ => (if h : k < 4 then .aload_n ⟨k, h⟩ else .aload k)
def stI (kd k : Nat) : Instr := match kd with
  | 0 => (if h : k < 4 then .istore_n ⟨k, h⟩ else .istore k)
  | 1 => (if h : k < 4 then .lstore_n ⟨k, h⟩ else .lstore k)
  | _ => (if h : k < 4 then .astore_n ⟨k, h⟩ else .astore k)
def lnI (k : Nat) : Nat := if k < 4 then 1 else 2
/-- an item: 0, j: the operation j; 1: a load; 2: a store; 3: iinc -/
abbrev tIt : Type := Nat × Nat × Int
def tNop : tOpE := (.nop, 1, [], [], fun K => K)
def opAt : List tOpE → Nat → tOpE
  | [], _ => tNop
  | q :: _, 0 => q
  | _ :: l, k + 1 => opAt l k
def denS (ops : List tOpE) : List tIt → tX → tX
  | [], T => T
  | (0, j, _) :: l, T => (opAt ops j).2.2.2.2 (denS ops l T)
  | (1, k, _) :: l, T => mx_load k (denS ops l T)
  | (2, k, _) :: l, T => mx_store k (denS ops l T)
  | (3, k, d) :: l, T => mx_iinc k d (denS ops l T)
  | _ :: l, T => denS ops l T
def preD : List Nat → List Nat → Option (List Nat)
  | [], ts => some ts
  | p :: ps, t :: ts => bif Nat.beq p t then preD ps ts else none
  | _, _ => none
theorem preD_ok : ∀ {ps ts r : List Nat}, preD ps ts = some r → ts = ps ++ r
  | [], ts, r, h => by cases h; rfl
  | p :: ps, [], r, h => by cases h
  | p :: ps, t :: ts, r, h => by
    unfold preD at h
    cases hb : Nat.beq p t with
    | false => rw [hb] at h; cases h
    | true =>
      rw [hb] at h
      rw [Nat.eq_of_beq_eq_true hb, preD_ok (ps := ps) h]
      rfl
def smC : List Nat → Nat
  | [] => 0
  | k :: ks => kCat k + smC ks
theorem smC_ok : ∀ ks : List Nat, (ks.map kCat).sum = smC ks
  | [] => rfl
  | k :: ks => by rw [List.map_cons, List.sum_cons, smC_ok ks]; rfl
/-- the types behind a run -/
def ckS (l : List Nat) (ops : List tOpE) (nL : Nat) : List tIt → Nat → List (Nat × Nat) → List Nat → Option (Nat × List (Nat × Nat) × List Nat)
  | [], pc, lt, ts => some (pc, lt, ts)
  | (0, j, _) :: is, pc, lt, ts => match preD (opAt ops j).2.2.1 ts with
    | some r => bif Nat.ble (smC r) 32 && Nat.blt j ops.length && okI l (pc, (opAt ops j).1, (opAt ops j).2.1) then ckS l ops nL is (pc + (opAt ops j).2.1) lt ((opAt ops j).2.2.2.1 ++ r) else none
    | none => none
  | (1, k, d) :: is, pc, lt, ts => bif okI l (pc, ldI d.toNat k, lnI k) && tIn lt k d.toNat && Nat.blt d.toNat 3 then ckS l ops nL is (pc + lnI k) lt (d.toNat :: ts) else none
  | (2, k, d) :: is, pc, lt, ts => match ts with
    | t :: ts' => bif Nat.beq t d.toNat && okI l (pc, stI t k, lnI k) && Nat.blt (k + 1) nL && Nat.blt t 3 then ckS l ops nL is (pc + lnI k) (if t = 1 then tSet2 lt k else tSet1 lt k t) ts' else bif Nat.beq t d.toNat && okI l (pc, stI t k, lnI k) && Nat.blt k nL && Nat.blt t 3 && !(Nat.beq t 1) then ckS l ops nL is (pc + lnI k) (tSet1 lt k t) ts' else none
    | [] => none
  | (3, k, d) :: is, pc, lt, ts => bif okI l (pc, .iinc k d, 3) && tIn lt k 0 && Nat.blt k nL then ckS l ops nL is (pc + 3) (tSet1 lt k 0) ts else none
  | _ :: _, _, _, _ => none
theorem opAt_mem : ∀ {l : List tOpE} {j : Nat}, j < l.length → opAt l j ∈ l
  | q :: l, 0, _ => List.mem_cons_self
  | q :: l, j + 1, h => List.mem_cons_of_mem _ (opAt_mem (by simpa using h))
theorem bif_some {α : Type} {b : Bool} {x : Option α} {y : α} (h : (bif b then x else none) = some y) : b = true ∧ x = some y := by
  cases b with
  | true => exact ⟨rfl, h⟩
  | false => cases h
section CKS
variable {E : tM}
theorem ld_ok {k kd pc : Nat} {lt : List (Nat × Nat)} {ts : List Nat} {K : tX} (h3 : kd < 3) (hd : decode (tM.cc E) pc = .ok (ldI kd k, lnI k)) (hm : tIn lt k kd = true) (hK : tSx E (pc + lnI k) lt (kd :: ts) K) : tSx E pc lt ts (mx_load k K) := by
  unfold ldI lnI at hd
  unfold lnI at hK
  match kd, h3, hd, hm, hK with
  | 0, _, hd, hm, hK =>
    by_cases h : k < 4
    · simp only [dif_pos h, if_pos h] at hd hK; exact ms_iload_n hd rfl hm hK
    · simp only [dif_neg h, if_neg h] at hd hK; exact ms_iload hd hm hK
  | 1, _, hd, hm, hK =>
    by_cases h : k < 4
    · simp only [dif_pos h, if_pos h] at hd hK; exact ms_lload_n hd rfl hm hK
    · simp only [dif_neg h, if_neg h] at hd hK; exact ms_lload hd hm hK
  | 2, _, hd, hm, hK =>
    by_cases h : k < 4
    · simp only [dif_pos h, if_pos h] at hd hK; exact ms_aload_n hd rfl hm hK
    · simp only [dif_neg h, if_neg h] at hd hK; exact ms_aload hd hm hK
theorem st_ok {k kd pc : Nat} {lt : List (Nat × Nat)} {ts : List Nat} {K : tX} (h3 : kd < 3) (hn : k < tM.nL E) (hn1 : kd = 1 → k + 1 < tM.nL E) (hd : decode (tM.cc E) pc = .ok (stI kd k, lnI k)) (hK : tSx E (pc + lnI k) (if kd = 1 then tSet2 lt k else tSet1 lt k kd) ts K) : tSx E pc lt (kd :: ts) (mx_store k K) := by
  unfold stI lnI at hd
  unfold lnI at hK
  match kd, h3, hd, hn1, hK with
  | 0, _, hd, hn1, hK =>
    by_cases h : k < 4
    · simp only [dif_pos h, if_pos h] at hd hK; exact ms_istore_n hd rfl hn hK
    · simp only [dif_neg h, if_neg h] at hd hK; exact ms_istore hd hn hK
  | 1, _, hd, hn1, hK =>
    by_cases h : k < 4
    · simp only [dif_pos h, if_pos h] at hd hK; exact ms_lstore_n hd rfl (hn1 rfl) hK
    · simp only [dif_neg h, if_neg h] at hd hK; exact ms_lstore hd (hn1 rfl) hK
  | 2, _, hd, hn1, hK =>
    by_cases h : k < 4
    · simp only [dif_pos h, if_pos h] at hd hK; exact ms_astore_n hd rfl hn hK
    · simp only [dif_neg h, if_neg h] at hd hK; exact ms_astore hd hn hK
theorem blt_ok {a b : Nat} (h : Nat.blt a b = true) : a < b := Nat.lt_of_lt_of_le (Nat.lt_succ_self _) (Nat.le_of_ble_eq_true h)
theorem ckS_ok {ops : List tOpE} (hops : ∀ q ∈ ops, OpOK E q) {T : tX} : ∀ {is : List tIt} {pc : Nat} {lt : List (Nat × Nat)} {ts : List Nat} {r : Nat × List (Nat × Nat) × List Nat}, ckS (tBy (tM.cc E)) ops (tM.nL E) is pc lt ts = some r → tSx E r.1 r.2.1 r.2.2 T → tSx E pc lt ts (denS ops is T)
  | [], pc, lt, ts, r, h, hT => by cases h; exact hT
  | (0, j, d) :: is, pc, lt, ts, r, h, hT => by
    unfold ckS at h
    simp only at h
    cases hp : preD (opAt ops j).2.2.1 ts with
    | none => rw [hp] at h; cases h
    | some rest =>
      rw [hp] at h
      obtain ⟨hb, h⟩ := bif_some h
      simp only [Bool.and_eq_true] at hb
      rw [preD_ok hp]
      exact hops _ (opAt_mem (blt_ok hb.1.2)) pc lt rest _ (okI_ok0 rfl _ hb.2) (by rw [smC_ok]; exact Nat.le_of_ble_eq_true hb.1.1) (ckS_ok hops h hT)
  | (1, k, d) :: is, pc, lt, ts, r, h, hT => by
    unfold ckS at h
    obtain ⟨hb, h⟩ := bif_some h
    simp only [Bool.and_eq_true] at hb
    exact ld_ok (blt_ok hb.2) (okI_ok0 rfl _ hb.1.1) hb.1.2 (ckS_ok hops h hT)
  | (2, k, d) :: is, pc, lt, [], r, h, hT => by
    unfold ckS at h
    cases h
  | (2, k, d) :: is, pc, lt, t :: ts, r, h, hT => by
    unfold ckS at h
    simp only at h
    cases hc : (Nat.beq t d.toNat && okI (tBy (tM.cc E)) (pc, stI t k, lnI k) && Nat.blt (k + 1) (tM.nL E) && Nat.blt t 3) with
    | true =>
      rw [hc] at h
      simp only [Bool.and_eq_true] at hc
      have h1 := blt_ok hc.1.2
      exact st_ok (blt_ok hc.2) (by omega) (fun _ => h1) (okI_ok0 rfl _ hc.1.1.2) (ckS_ok hops h hT)
    | false =>
      rw [hc] at h
      obtain ⟨hb, h⟩ := bif_some h
      simp only [Bool.and_eq_true, Bool.not_eq_true'] at hb
      have h1 : t ≠ 1 := fun z => by rw [z] at hb; exact absurd hb.2 (by decide)
      refine st_ok (blt_ok hb.1.2) (blt_ok hb.1.1.2) (fun z => absurd z h1) (okI_ok0 rfl _ hb.1.1.1.2) ?_
      rw [if_neg h1]
      exact ckS_ok hops h hT
  | (3, k, d) :: is, pc, lt, ts, r, h, hT => by
    unfold ckS at h
    obtain ⟨hb, h⟩ := bif_some h
    simp only [Bool.and_eq_true] at hb
    exact ms_iinc (okI_ok0 rfl _ hb.1.1) hb.1.2 (blt_ok hb.2) (ckS_ok hops h hT)
  | (n + 4, k, d) :: is, pc, lt, ts, r, h, hT => by
    unfold ckS at h
    cases h
end CKS
/-! the operations as entries -/
section OPK
variable {E : tM}
theorem opk_iconst (n : Int) : OpOK E (.iconst n, 1, [], [0], mx_push n) := fun pc lt ts K hd hst hK => ms_iconst hd hK
theorem opk_bipush {n : Int} (hx : (Int8.ofInt n).toInt32 = Int32.ofInt n) : OpOK E (.bipush n, 2, [], [0], mx_push n) := fun pc lt ts K hd hst hK => ms_bipush hd hx hK
theorem opk_sipush {n : Int} (hx : (Int16.ofInt n).toInt32 = Int32.ofInt n) : OpOK E (.sipush n, 3, [], [0], mx_push n) := fun pc lt ts K hd hst hK => ms_sipush hd hx hK
theorem opk_lconst0  : OpOK E (.lconst 0, 1, [], [1], mx_push 0) := fun pc lt ts K hd hst hK => ms_lconst hd rfl hK
theorem opk_lconst1  : OpOK E (.lconst 1, 1, [], [1], mx_push 1) := fun pc lt ts K hd hst hK => ms_lconst hd rfl hK
theorem opk_ldc {i : Nat} {v : Int32} {x : Int} (hq : Cond.constant (tM.own E) i v ∈ lw_all) (hx : v = Int32.ofInt x) : OpOK E (.ldc i, 2, [], [0], mx_push x) := fun pc lt ts K hd hst hK => ms_ldc hd hq hx hK
theorem opk_ldc2 {i : Nat} {v : Int64} {x : Int} (hq : Cond.constantLong (tM.own E) i v ∈ lw_all) (hx : v = Int64.ofInt x) : OpOK E (.ldc2_w i, 3, [], [1], mx_push x) := fun pc lt ts K hd hst hK => ms_ldc2 hd hq hx hK
theorem opk_null  : OpOK E (.aconst_null, 1, [], [2], mx_push 0) := fun pc lt ts K hd hst hK => ms_null hd hK
theorem opk_iadd  : OpOK E (.iadd, 1, [0, 0], [0], mx_bin f_add) := fun pc lt ts K hd hst hK => ms_iadd hd hK
theorem opk_iaddw  : OpOK E (.iadd, 1, [0, 0], [0], mx_bin f_addw) := fun pc lt ts K hd hst hK => ms_iaddw hd hK
theorem opk_isub  : OpOK E (.isub, 1, [0, 0], [0], mx_bin f_sub) := fun pc lt ts K hd hst hK => ms_isub hd hK
theorem opk_isubw  : OpOK E (.isub, 1, [0, 0], [0], mx_bin f_subw) := fun pc lt ts K hd hst hK => ms_isubw hd hK
theorem opk_imul  : OpOK E (.imul, 1, [0, 0], [0], mx_bin f_mul) := fun pc lt ts K hd hst hK => ms_imul hd hK
theorem opk_imulw  : OpOK E (.imul, 1, [0, 0], [0], mx_bin f_mulw) := fun pc lt ts K hd hst hK => ms_imulw hd hK
theorem opk_ladd  : OpOK E (.ladd, 1, [1, 1], [1], mx_bin f_add) := fun pc lt ts K hd hst hK => ms_ladd hd hK
theorem opk_lsub  : OpOK E (.lsub, 1, [1, 1], [1], mx_bin f_sub) := fun pc lt ts K hd hst hK => ms_lsub hd hK
theorem opk_lmul  : OpOK E (.lmul, 1, [1, 1], [1], mx_bin f_mul) := fun pc lt ts K hd hst hK => ms_lmul hd hK
theorem opk_iand  : OpOK E (.iand, 1, [0, 0], [0], mx_bin f_and) := fun pc lt ts K hd hst hK => ms_iand hd hK
theorem opk_ior  : OpOK E (.ior, 1, [0, 0], [0], mx_bin f_or) := fun pc lt ts K hd hst hK => ms_ior hd hK
theorem opk_ixor  : OpOK E (.ixor, 1, [0, 0], [0], mx_bin f_xor) := fun pc lt ts K hd hst hK => ms_ixor hd hK
theorem opk_ishl  : OpOK E (.ishl, 1, [0, 0], [0], mx_bin f_shl) := fun pc lt ts K hd hst hK => ms_ishl hd hK
theorem opk_ishr  : OpOK E (.ishr, 1, [0, 0], [0], mx_bin f_shr) := fun pc lt ts K hd hst hK => ms_ishr hd hK
theorem opk_land  : OpOK E (.land, 1, [1, 1], [1], mx_bin f_land) := fun pc lt ts K hd hst hK => ms_land hd hK
theorem opk_lor  : OpOK E (.lor, 1, [1, 1], [1], mx_bin f_lor) := fun pc lt ts K hd hst hK => ms_lor hd hK
theorem opk_lshl  : OpOK E (.lshl, 1, [0, 1], [1], mx_bin f_lshl) := fun pc lt ts K hd hst hK => ms_lshl hd hK
theorem opk_lshr  : OpOK E (.lshr, 1, [0, 1], [1], mx_bin f_lshr) := fun pc lt ts K hd hst hK => ms_lshr hd hK
theorem opk_lushr  : OpOK E (.lushr, 1, [0, 1], [1], mx_bin f_lushr) := fun pc lt ts K hd hst hK => ms_lushr hd hK
theorem opk_idiv  : OpOK E (.idiv, 1, [0, 0], [0], mx_idiv) := fun pc lt ts K hd hst hK => ms_idiv hd hK
theorem opk_irem  : OpOK E (.irem, 1, [0, 0], [0], mx_irem) := fun pc lt ts K hd hst hK => ms_irem hd hK
theorem opk_ldiv  : OpOK E (.ldiv, 1, [1, 1], [1], mx_ldiv) := fun pc lt ts K hd hst hK => ms_ldiv hd hK
theorem opk_lrem  : OpOK E (.lrem, 1, [1, 1], [1], mx_lrem) := fun pc lt ts K hd hst hK => ms_lrem hd hK
theorem opk_ineg  : OpOK E (.ineg, 1, [0], [0], mx_un f_neg) := fun pc lt ts K hd hst hK => ms_ineg hd hK
theorem opk_inegw  : OpOK E (.ineg, 1, [0], [0], mx_un f_negw) := fun pc lt ts K hd hst hK => ms_inegw hd hK
theorem opk_lneg  : OpOK E (.lneg, 1, [1], [1], mx_un f_neg) := fun pc lt ts K hd hst hK => ms_lneg hd hK
theorem opk_i2l  : OpOK E (.i2l, 1, [0], [1], mx_i2l) := fun pc lt ts K hd hst hK => ms_i2l hd hK
theorem opk_l2i  : OpOK E (.l2i, 1, [1], [0], mx_un w32) := fun pc lt ts K hd hst hK => ms_l2i hd hK
theorem opk_i2b  : OpOK E (.i2b, 1, [0], [0], mx_un f_i2b) := fun pc lt ts K hd hst hK => ms_i2b hd hK
theorem opk_i2c  : OpOK E (.i2c, 1, [0], [0], mx_un f_i2c) := fun pc lt ts K hd hst hK => ms_i2c hd hK
theorem opk_dup0  : OpOK E (.dup, 1, [0], [0, 0], mx_dup) := fun pc lt ts K hd hst hK => ms_dup 0 rfl hd hK
theorem opk_dup2_  : OpOK E (.dup, 1, [2], [2, 2], mx_dup) := fun pc lt ts K hd hst hK => ms_dup 2 rfl hd hK
theorem opk_dup2_00  : OpOK E (.dup2, 1, [0, 0], [0, 0, 0, 0], mx_dup2) := fun pc lt ts K hd hst hK => ms_dup2 0 0 rfl rfl hd hK
theorem opk_dup2_02  : OpOK E (.dup2, 1, [0, 2], [0, 2, 0, 2], mx_dup2) := fun pc lt ts K hd hst hK => ms_dup2 0 2 rfl rfl hd hK
theorem opk_dup2_20  : OpOK E (.dup2, 1, [2, 0], [2, 0, 2, 0], mx_dup2) := fun pc lt ts K hd hst hK => ms_dup2 2 0 rfl rfl hd hK
theorem opk_dup2_22  : OpOK E (.dup2, 1, [2, 2], [2, 2, 2, 2], mx_dup2) := fun pc lt ts K hd hst hK => ms_dup2 2 2 rfl rfl hd hK
theorem opk_pop0  : OpOK E (.pop, 1, [0], [], mx_pop) := fun pc lt ts K hd hst hK => ms_pop 0 rfl hd hK
theorem opk_pop2_  : OpOK E (.pop, 1, [2], [], mx_pop) := fun pc lt ts K hd hst hK => ms_pop 2 rfl hd hK
theorem opk_iald  : OpOK E (.iaload, 1, [0, 2], [0], mx_ald 0) := fun pc lt ts K hd hst hK => ms_iald hd hK
theorem opk_lald  : OpOK E (.laload, 1, [0, 2], [1], mx_ald 1) := fun pc lt ts K hd hst hK => ms_lald hd hK
theorem opk_zald  : OpOK E (.baload, 1, [0, 2], [0], mx_ald 2) := fun pc lt ts K hd hst hK => ms_zald hd hK
theorem opk_bald  : OpOK E (.baload, 1, [0, 2], [0], mx_ald 3) := fun pc lt ts K hd hst hK => ms_bald hd hK
theorem opk_iast  : OpOK E (.iastore, 1, [0, 0, 2], [], mx_iast) := fun pc lt ts K hd hst hK => ms_iast hd hK
theorem opk_last  : OpOK E (.lastore, 1, [1, 0, 2], [], mx_last) := fun pc lt ts K hd hst hK => ms_last hd hK
theorem opk_zast  : OpOK E (.bastore, 1, [0, 0, 2], [], mx_zast) := fun pc lt ts K hd hst hK => ms_zast hd hK
theorem opk_bast  : OpOK E (.bastore, 1, [0, 0, 2], [], mx_bast) := fun pc lt ts K hd hst hK => ms_bast hd hK
theorem opk_aald (t : Nat) (ht9 : t < 2000) {ty : FieldType} (ht : xar t = some ty) (hr : ty.isReference = true) (hk2 : kdF ty = 2) : OpOK E (.aaload, 1, [0, 2], [2], mx_ald t) := fun pc lt ts K hd hst hK => ms_aald t ht9 ht hr hk2 hd hK
theorem opk_alen (t : Nat) (ht9 : t < 2000) {ty : FieldType} (ht : xar t = some ty) : OpOK E (.arraylength, 1, [2], [0], mx_alen t) := fun pc lt ts K hd hst hK => ms_alen t ht9 ht hd hK
theorem opk_getf (c k : Nat) {q : vw_C} {idx : Nat} {ref : String} (kd : Nat) (hc : xcl c = some q) (hc9 : c < 3000) (hk : k < q.2.2) (hq : Cond.fieldLink (tM.own E) idx ref (q.2.1 k).2.1 (q.2.1 k).2.2.1 ∈ lw_all) (hs : ref = (q.2.1 k).1 ∨ Cond.sameField ref (q.2.1 k).1 (q.2.1 k).2.1 (q.2.1 k).2.2.1 ∈ lw_all) (hkd : kdF (xty c k) = kd) : OpOK E (.getfield idx, 3, [2], [kd], mx_getf c k) := fun pc lt ts K hd hst hK => ms_getf c k kd hd hc hc9 hk hq hs hkd hK
theorem opk_putf (c k : Nat) {hok : ∀ v, okF (xty c k) v = true} {q : vw_C} {idx : Nat} {ref : String} (kd : Nat) (hc : xcl c = some q) (hc9 : c < 1000) (hk : k < q.2.2) (hq : Cond.fieldLink (tM.own E) idx ref (q.2.1 k).2.1 (q.2.1 k).2.2.1 ∈ lw_all) (hs : ref = (q.2.1 k).1 ∨ Cond.sameField ref (q.2.1 k).1 (q.2.1 k).2.1 (q.2.1 k).2.2.1 ∈ lw_all) (hfin : (q.2.1 k).2.2.2 = false ∨ ((q.2.1 k).2.2.2 = true ∧ tM.ini E = true ∧ (q.2.1 k).1 = tM.own E)) (hkd : kdF (xty c k) = kd) : OpOK E (.putfield idx, 3, [kd, 2], [], mx_putf c k hok) := fun pc lt ts K hd hst hK => ms_putf c k (hok := hok) kd hd hc hc9 hk hq hs hfin hkd hK
theorem opk_putfz (c k : Nat) {hok : ∀ v, (v = 0 ∨ v = 1) → okF (xty c k) v = true} {q : vw_C} {idx : Nat} {ref : String} (kd : Nat) (hc : xcl c = some q) (hc9 : c < 1000) (hk : k < q.2.2) (hq : Cond.fieldLink (tM.own E) idx ref (q.2.1 k).2.1 (q.2.1 k).2.2.1 ∈ lw_all) (hs : ref = (q.2.1 k).1 ∨ Cond.sameField ref (q.2.1 k).1 (q.2.1 k).2.1 (q.2.1 k).2.2.1 ∈ lw_all) (hfin : (q.2.1 k).2.2.2 = false ∨ ((q.2.1 k).2.2.2 = true ∧ tM.ini E = true ∧ (q.2.1 k).1 = tM.own E)) (hkd : kdF (xty c k) = kd) : OpOK E (.putfield idx, 3, [kd, 2], [], mx_putfz c k hok) := fun pc lt ts K hd hst hK => ms_putfz c k (hok := hok) kd hd hc hc9 hk hq hs hfin hkd hK
end OPK
