/-! decoding, by bytes -/
theorem u1_run {c : ByteArray} {p : Nat} (h : p < c.size) : (Reader.u1 : Decoder Nat) c p = .ok ((c[p]'h).toNat, p + 1) := by
  show (if h : p < c.size then _ else _ : Decoder Nat) c p = _
  rw [dif_pos h]
  rfl
def tBy (c : ByteArray) : List Nat := c.data.toList.map UInt8.toNat
theorem tBy_at {c : ByteArray} {l : List Nat} (hb : tBy c = l) {p : Nat} (hp : p < l.length) : ∃ h : p < c.size, (c[p]'h).toNat = l.getD p 0 := by
  subst hb
  have h : p < c.size := by
    have := hp
    unfold tBy at this
    rw [List.length_map, Array.length_toList] at this
    exact this
  refine ⟨h, ?_⟩
  unfold tBy
  rw [List.getD_eq_getElem?_getD, List.getElem?_map, Array.getElem?_toList]
  have h' : p < c.data.size := h
  rw [Array.getElem?_eq_getElem h']
  rfl
theorem u1_by {c : ByteArray} {l : List Nat} (hb : tBy c = l) {p n : Nat} (hp : p < l.length) (hn : l.getD p 0 = n) : (Reader.u1 : Decoder Nat) c p = .ok (n, p + 1) := by
  obtain ⟨h, e⟩ := tBy_at hb hp
  rw [u1_run h, e, hn]
theorem u2_by {c : ByteArray} {l : List Nat} (hb : tBy c = l) {p n : Nat} (hp : p + 1 < l.length) (hn : l.getD p 0 * 256 + l.getD (p + 1) 0 = n) : (Reader.u2 : Decoder Nat) c p = .ok (n, p + 2) := by
  have h1 := u1_by hb (p := p) (by omega) rfl
  have h2 := u1_by hb (p := p + 1) hp rfl
  show (Except.bind ((Reader.u1 : Decoder Nat) c p) fun x => Except.bind ((Reader.u1 : Decoder Nat) c x.2) fun y => Except.ok (x.1 * 256 + y.1, y.2)) = _
  rw [h1]
  show (Except.bind ((Reader.u1 : Decoder Nat) c (p + 1)) fun y => Except.ok (_ * 256 + y.1, y.2)) = _
  rw [h2, ← hn]
  rfl
theorem s2_by {c : ByteArray} {l : List Nat} (hb : tBy c = l) {p : Nat} {n : Int} (hp : p + 1 < l.length) (hn : Reader.signed 16 (l.getD p 0 * 256 + l.getD (p + 1) 0) = n) : (Reader.s2 : Decoder Int) c p = .ok (n, p + 2) := by
  show (Except.bind ((Reader.u2 : Decoder Nat) c p) fun x => Except.ok (Reader.signed 16 x.1, x.2)) = _
  rw [u2_by hb hp rfl, ← hn]
  rfl
theorem s1_by {c : ByteArray} {l : List Nat} (hb : tBy c = l) {p : Nat} {n : Int} (hp : p < l.length) (hn : Reader.signed 8 (l.getD p 0) = n) : (Reader.s1 : Decoder Int) c p = .ok (n, p + 1) := by
  show (Except.bind ((Reader.u1 : Decoder Nat) c p) fun x => Except.ok (Reader.signed 8 x.1, x.2)) = _
  rw [u1_by hb hp rfl, ← hn]
  rfl
theorem dec_of {c : ByteArray} {l : List Nat} (hb : tBy c = l) {pc n : Nat} {g : Decoder Instr} {i : Instr} {nx : Nat} (hp : pc < l.length) (hn : l.getD pc 0 = n) (hG : ∃ G, Decoder.instr pc = (Reader.u1 >>= G) ∧ G n = g) (hg : g c (pc + 1) = .ok (i, nx)) : decode c pc = .ok (i, nx - pc) := by
  obtain ⟨G, h1, h2⟩ := hG
  subst h2
  unfold decode Reader.runAt
  rw [h1]
  show (Except.bind (Except.bind ((Reader.u1 : Decoder Nat) c pc) fun x => G x.1 c x.2) fun y => Except.ok (y.1, y.2 - pc)) = _
  rw [u1_by hb hp hn]
  show (Except.bind (G n c (pc + 1)) fun y => Except.ok (y.1, y.2 - pc)) = _
  rw [hg]
  rfl
theorem dec0 {c : ByteArray} {l : List Nat} (hb : tBy c = l) {pc n : Nat} {i : Instr} (hG : ∃ G, Decoder.instr pc = (Reader.u1 >>= G) ∧ G n = Pure.pure i) (hk : (Nat.blt pc l.length && Nat.beq (l.getD pc 0) n) = true) : decode c pc = .ok (i, 1) := by
  rw [Bool.and_eq_true] at hk
  have h1 : pc < l.length := Nat.lt_of_lt_of_le (Nat.lt_succ_self _) (Nat.le_of_ble_eq_true hk.1)
  have := dec_of hb h1 (Nat.eq_of_beq_eq_true hk.2) hG rfl
  rw [this, Nat.add_sub_cancel_left]
theorem decU1 {c : ByteArray} {l : List Nat} (hb : tBy c = l) {pc n k : Nat} {f : Nat → Instr} (hG : ∃ G, Decoder.instr pc = (Reader.u1 >>= G) ∧ G n = (Reader.u1 >>= fun k => Pure.pure (f k))) (hk : (Nat.blt (pc + 1) l.length && (Nat.beq (l.getD pc 0) n && Nat.beq (l.getD (pc + 1) 0) k)) = true) : decode c pc = .ok (f k, 2) := by
  rw [Bool.and_eq_true, Bool.and_eq_true] at hk
  have h1 : pc + 1 < l.length := Nat.lt_of_lt_of_le (Nat.lt_succ_self _) (Nat.le_of_ble_eq_true hk.1)
  have := dec_of hb (by omega) (Nat.eq_of_beq_eq_true hk.2.1) hG (i := f k) (nx := pc + 2) (by
    show (Except.bind ((Reader.u1 : Decoder Nat) c (pc + 1)) fun x => Except.ok (f x.1, x.2)) = _
    rw [u1_by hb h1 (Nat.eq_of_beq_eq_true hk.2.2)]
    rfl)
  rw [this, Nat.add_sub_cancel_left]
theorem decS1 {c : ByteArray} {l : List Nat} (hb : tBy c = l) {pc n : Nat} {k : Int} {f : Int → Instr} (hG : ∃ G, Decoder.instr pc = (Reader.u1 >>= G) ∧ G n = (Reader.s1 >>= fun k => Pure.pure (f k))) (hk : (Nat.blt (pc + 1) l.length && (Nat.beq (l.getD pc 0) n && decide (Reader.signed 8 (l.getD (pc + 1) 0) = k))) = true) : decode c pc = .ok (f k, 2) := by
  rw [Bool.and_eq_true, Bool.and_eq_true] at hk
  have h1 : pc + 1 < l.length := Nat.lt_of_lt_of_le (Nat.lt_succ_self _) (Nat.le_of_ble_eq_true hk.1)
  have := dec_of hb (by omega) (Nat.eq_of_beq_eq_true hk.2.1) hG (i := f k) (nx := pc + 2) (by
    show (Except.bind ((Reader.s1 : Decoder Int) c (pc + 1)) fun x => Except.ok (f x.1, x.2)) = _
    rw [s1_by hb h1 (of_decide_eq_true hk.2.2)]
    rfl)
  rw [this, Nat.add_sub_cancel_left]
theorem decU2 {c : ByteArray} {l : List Nat} (hb : tBy c = l) {pc n k : Nat} {f : Nat → Instr} (hG : ∃ G, Decoder.instr pc = (Reader.u1 >>= G) ∧ G n = (Reader.u2 >>= fun k => Pure.pure (f k))) (hk : (Nat.blt (pc + 2) l.length && (Nat.beq (l.getD pc 0) n && Nat.beq (l.getD (pc + 1) 0 * 256 + l.getD (pc + 1 + 1) 0) k)) = true) : decode c pc = .ok (f k, 3) := by
  rw [Bool.and_eq_true, Bool.and_eq_true] at hk
  have h1 : pc + 2 < l.length := Nat.lt_of_lt_of_le (Nat.lt_succ_self _) (Nat.le_of_ble_eq_true hk.1)
  have := dec_of hb (by omega) (Nat.eq_of_beq_eq_true hk.2.1) hG (i := f k) (nx := pc + 3) (by
    show (Except.bind ((Reader.u2 : Decoder Nat) c (pc + 1)) fun x => Except.ok (f x.1, x.2)) = _
    rw [u2_by hb (by omega) (Nat.eq_of_beq_eq_true hk.2.2)]
    rfl)
  rw [this, Nat.add_sub_cancel_left]
theorem decS2 {c : ByteArray} {l : List Nat} (hb : tBy c = l) {pc n : Nat} {k : Int} {f : Int → Instr} (hG : ∃ G, Decoder.instr pc = (Reader.u1 >>= G) ∧ G n = (Reader.s2 >>= fun k => Pure.pure (f k))) (hk : (Nat.blt (pc + 2) l.length && (Nat.beq (l.getD pc 0) n && decide (Reader.signed 16 (l.getD (pc + 1) 0 * 256 + l.getD (pc + 1 + 1) 0) = k))) = true) : decode c pc = .ok (f k, 3) := by
  rw [Bool.and_eq_true, Bool.and_eq_true] at hk
  have h1 : pc + 2 < l.length := Nat.lt_of_lt_of_le (Nat.lt_succ_self _) (Nat.le_of_ble_eq_true hk.1)
  have := dec_of hb (by omega) (Nat.eq_of_beq_eq_true hk.2.1) hG (i := f k) (nx := pc + 3) (by
    show (Except.bind ((Reader.s2 : Decoder Int) c (pc + 1)) fun x => Except.ok (f x.1, x.2)) = _
    rw [s2_by hb (by omega) (of_decide_eq_true hk.2.2)]
    rfl)
  rw [this, Nat.add_sub_cancel_left]
theorem decInc {c : ByteArray} {l : List Nat} (hb : tBy c = l) {pc k : Nat} {d : Int} (hk : (Nat.blt (pc + 2) l.length && (Nat.beq (l.getD pc 0) 132 && (Nat.beq (l.getD (pc + 1) 0) k && decide (Reader.signed 8 (l.getD (pc + 1 + 1) 0) = d)))) = true) : decode c pc = .ok (.iinc k d, 3) := by
  rw [Bool.and_eq_true, Bool.and_eq_true, Bool.and_eq_true] at hk
  have h1 : pc + 2 < l.length := Nat.lt_of_lt_of_le (Nat.lt_succ_self _) (Nat.le_of_ble_eq_true hk.1)
  have := dec_of hb (by omega) (Nat.eq_of_beq_eq_true hk.2.1) ⟨_, rfl, rfl⟩ (i := .iinc k d) (nx := pc + 3) (by
    show (Except.bind ((Reader.u1 : Decoder Nat) c (pc + 1)) fun x => Except.bind ((Reader.s1 : Decoder Int) c x.2) fun y => Except.ok (Instr.iinc x.1 y.1, y.2)) = _
    rw [u1_by hb (by omega) (Nat.eq_of_beq_eq_true hk.2.2.1)]
    show (Except.bind ((Reader.s1 : Decoder Int) c (pc + 1 + 1)) fun y => Except.ok (Instr.iinc k y.1, y.2)) = _
    rw [s1_by hb (by omega) (of_decide_eq_true hk.2.2.2)]
    rfl)
  rw [this, Nat.add_sub_cancel_left]
/-- format, opcode, operands -/
def kI (i : Instr) : Nat × Nat × Int × Int := match i with
  | .nop => (0, 0, 0, 0)
  | .aconst_null => (0, 1, 0, 0)
  | .iaload => (0, 46, 0, 0)
  | .laload => (0, 47, 0, 0)
  | .aaload => (0, 50, 0, 0)
  | .baload => (0, 51, 0, 0)
  | .caload => (0, 52, 0, 0)
  | .iastore => (0, 79, 0, 0)
  | .lastore => (0, 80, 0, 0)
  | .aastore => (0, 83, 0, 0)
  | .bastore => (0, 84, 0, 0)
  | .castore => (0, 85, 0, 0)
  | .pop => (0, 87, 0, 0)
  | .dup => (0, 89, 0, 0)
  | .dup_x1 => (0, 90, 0, 0)
  | .dup2 => (0, 92, 0, 0)
  | .iadd => (0, 96, 0, 0)
  | .ladd => (0, 97, 0, 0)
  | .isub => (0, 100, 0, 0)
  | .lsub => (0, 101, 0, 0)
  | .imul => (0, 104, 0, 0)
  | .lmul => (0, 105, 0, 0)
  | .idiv => (0, 108, 0, 0)
  | .ldiv => (0, 109, 0, 0)
  | .irem => (0, 112, 0, 0)
  | .lrem => (0, 113, 0, 0)
  | .ineg => (0, 116, 0, 0)
  | .lneg => (0, 117, 0, 0)
  | .ishl => (0, 120, 0, 0)
  | .lshl => (0, 121, 0, 0)
  | .ishr => (0, 122, 0, 0)
  | .lshr => (0, 123, 0, 0)
  | .iushr => (0, 124, 0, 0)
  | .lushr => (0, 125, 0, 0)
  | .iand => (0, 126, 0, 0)
  | .land => (0, 127, 0, 0)
  | .ior => (0, 128, 0, 0)
  | .lor => (0, 129, 0, 0)
  | .ixor => (0, 130, 0, 0)
  | .lxor => (0, 131, 0, 0)
  | .i2l => (0, 133, 0, 0)
  | .l2i => (0, 136, 0, 0)
  | .i2b => (0, 145, 0, 0)
  | .i2c => (0, 146, 0, 0)
  | .lcmp => (0, 148, 0, 0)
  | .ireturn => (0, 172, 0, 0)
  | .lreturn => (0, 173, 0, 0)
  | .areturn => (0, 176, 0, 0)
  | .return_ => (0, 177, 0, 0)
  | .arraylength => (0, 190, 0, 0)
  | .athrow => (0, 191, 0, 0)
  | .ldc k => (1, 18, (k : Int), 0)
  | .iload k => (1, 21, (k : Int), 0)
  | .lload k => (1, 22, (k : Int), 0)
  | .aload k => (1, 25, (k : Int), 0)
  | .istore k => (1, 54, (k : Int), 0)
  | .lstore k => (1, 55, (k : Int), 0)
  | .astore k => (1, 58, (k : Int), 0)
  | .bipush k => (2, 16, k, 0)
  | .sipush k => (4, 17, k, 0)
  | .ldc_w k => (3, 19, (k : Int), 0)
  | .ldc2_w k => (3, 20, (k : Int), 0)
  | .getstatic k => (3, 178, (k : Int), 0)
  | .putstatic k => (3, 179, (k : Int), 0)
  | .getfield k => (3, 180, (k : Int), 0)
  | .putfield k => (3, 181, (k : Int), 0)
  | .invokevirtual k => (3, 182, (k : Int), 0)
  | .invokespecial k => (3, 183, (k : Int), 0)
  | .invokestatic k => (3, 184, (k : Int), 0)
  | .new k => (3, 187, (k : Int), 0)
  | .anewarray k => (3, 189, (k : Int), 0)
  | .checkcast k => (3, 192, (k : Int), 0)
  | .instanceof k => (3, 193, (k : Int), 0)
  | .goto k => (4, 167, k, 0)
  | .ifnull k => (4, 198, k, 0)
  | .ifnonnull k => (4, 199, k, 0)
  | .ifCond c k => (4, (match c with | .eq => 153 | .ne => 154 | .lt => 155 | .ge => 156 | .gt => 157 | .le => 158), k, 0)
  | .if_icmp c k => (4, (match c with | .eq => 159 | .ne => 160 | .lt => 161 | .ge => 162 | .gt => 163 | .le => 164), k, 0)
  | .iload_n k => (0, (match k with | 0 => 26 | 1 => 27 | 2 => 28 | 3 => 29), 0, 0)
  | .lload_n k => (0, (match k with | 0 => 30 | 1 => 31 | 2 => 32 | 3 => 33), 0, 0)
  | .aload_n k => (0, (match k with | 0 => 42 | 1 => 43 | 2 => 44 | 3 => 45), 0, 0)
  | .istore_n k => (0, (match k with | 0 => 59 | 1 => 60 | 2 => 61 | 3 => 62), 0, 0)
  | .lstore_n k => (0, (match k with | 0 => 63 | 1 => 64 | 2 => 65 | 3 => 66), 0, 0)
  | .astore_n k => (0, (match k with | 0 => 75 | 1 => 76 | 2 => 77 | 3 => 78), 0, 0)
  | .iconst k => (if k = -1 then (0, 2, 0, 0) else if k = 0 then (0, 3, 0, 0) else if k = 1 then (0, 4, 0, 0) else if k = 2 then (0, 5, 0, 0) else if k = 3 then (0, 6, 0, 0) else if k = 4 then (0, 7, 0, 0) else if k = 5 then (0, 8, 0, 0) else (9, 0, 0, 0))
  | .lconst k => (0, (match k with | 0 => 9 | 1 => 10), 0, 0)
  | .iinc k d => (5, 132, (k : Int), d)
  | .newarray t => (6, 188, (match t with | .boolean => 4 | .char => 5 | .float => 6 | .double => 7 | .byte => 8 | .short => 9 | .int => 10 | .long => 11), 0)
  | _ => (9, 0, 0, 0)
def ck0 (l : List Nat) (pc n len : Nat) : Bool := Nat.beq len 1 && (Nat.blt pc l.length && Nat.beq (l.getD pc 0) n)
def ckU1 (l : List Nat) (pc n : Nat) (k : Int) (len : Nat) : Bool := Nat.beq len 2 && (Nat.blt (pc + 1) l.length && (Nat.beq (l.getD pc 0) n && decide (((l.getD (pc + 1) 0 : Nat) : Int) = k)))
def ckS1 (l : List Nat) (pc n : Nat) (k : Int) (len : Nat) : Bool := Nat.beq len 2 && (Nat.blt (pc + 1) l.length && (Nat.beq (l.getD pc 0) n && decide (Reader.signed 8 (l.getD (pc + 1) 0) = k)))
def ckU2 (l : List Nat) (pc n : Nat) (k : Int) (len : Nat) : Bool := Nat.beq len 3 && (Nat.blt (pc + 2) l.length && (Nat.beq (l.getD pc 0) n && decide (((l.getD (pc + 1) 0 * 256 + l.getD (pc + 1 + 1) 0 : Nat) : Int) = k)))
def ckS2 (l : List Nat) (pc n : Nat) (k : Int) (len : Nat) : Bool := Nat.beq len 3 && (Nat.blt (pc + 2) l.length && (Nat.beq (l.getD pc 0) n && decide (Reader.signed 16 (l.getD (pc + 1) 0 * 256 + l.getD (pc + 1 + 1) 0) = k)))
def ckInc (l : List Nat) (pc : Nat) (k d : Int) (len : Nat) : Bool := Nat.beq len 3 && (Nat.blt (pc + 2) l.length && (Nat.beq (l.getD pc 0) 132 && (decide (((l.getD (pc + 1) 0 : Nat) : Int) = k) && decide (Reader.signed 8 (l.getD (pc + 1 + 1) 0) = d))))
def ckA (l : List Nat) (pc : Nat) (len : Nat) (x : Nat × Nat × Int × Int) : Bool := match x.1 with
  | 0 => ck0 l pc x.2.1 len
  | 1 => ckU1 l pc x.2.1 x.2.2.1 len
  | 2 => ckS1 l pc x.2.1 x.2.2.1 len
  | 3 => ckU2 l pc x.2.1 x.2.2.1 len
  | 4 => ckS2 l pc x.2.1 x.2.2.1 len
  | 5 => ckInc l pc x.2.2.1 x.2.2.2 len
  | 6 => ckU1 l pc x.2.1 x.2.2.1 len
  | _ => false
def okI (l : List Nat) (q : Nat × Instr × Nat) : Bool := ckA l q.1 q.2.2 (kI q.2.1)
section DK
variable {c : ByteArray} {l : List Nat} {pc n len : Nat}
theorem dk0 (hb : tBy c = l) (i : Instr) (h : ck0 l pc n len = true) (hG : ∃ G, Decoder.instr pc = (Reader.u1 >>= G) ∧ G n = Pure.pure i) : decode c pc = .ok (i, len) := by
  unfold ck0 at h
  rw [Bool.and_eq_true] at h
  rw [Nat.eq_of_beq_eq_true h.1]
  exact dec0 hb hG h.2
theorem nat_beq_of_int {a k : Nat} (h : decide ((a : Int) = (k : Int)) = true) : Nat.beq a k = true := by
  have : a = k := Int.ofNat.inj (of_decide_eq_true h)
  rw [this]
  exact Nat.beq_refl k
theorem dkU1 (hb : tBy c = l) (f : Nat → Instr) {k : Nat} (h : ckU1 l pc n (k : Int) len = true) (hG : ∃ G, Decoder.instr pc = (Reader.u1 >>= G) ∧ G n = (Reader.u1 >>= fun k => Pure.pure (f k))) : decode c pc = .ok (f k, len) := by
  unfold ckU1 at h
  simp only [Bool.and_eq_true] at h
  rw [Nat.eq_of_beq_eq_true h.1]
  exact decU1 hb hG (by simp only [Bool.and_eq_true]; exact ⟨h.2.1, h.2.2.1, nat_beq_of_int h.2.2.2⟩)
theorem dkS1 (hb : tBy c = l) (f : Int → Instr) {k : Int} (h : ckS1 l pc n k len = true) (hG : ∃ G, Decoder.instr pc = (Reader.u1 >>= G) ∧ G n = (Reader.s1 >>= fun k => Pure.pure (f k))) : decode c pc = .ok (f k, len) := by
  unfold ckS1 at h
  rw [Bool.and_eq_true] at h
  rw [Nat.eq_of_beq_eq_true h.1]
  exact decS1 hb hG h.2
theorem dkU2 (hb : tBy c = l) (f : Nat → Instr) {k : Nat} (h : ckU2 l pc n (k : Int) len = true) (hG : ∃ G, Decoder.instr pc = (Reader.u1 >>= G) ∧ G n = (Reader.u2 >>= fun k => Pure.pure (f k))) : decode c pc = .ok (f k, len) := by
  unfold ckU2 at h
  simp only [Bool.and_eq_true] at h
  rw [Nat.eq_of_beq_eq_true h.1]
  exact decU2 hb hG (by simp only [Bool.and_eq_true]; exact ⟨h.2.1, h.2.2.1, nat_beq_of_int h.2.2.2⟩)
theorem dkS2 (hb : tBy c = l) (f : Int → Instr) {k : Int} (h : ckS2 l pc n k len = true) (hG : ∃ G, Decoder.instr pc = (Reader.u1 >>= G) ∧ G n = (Reader.s2 >>= fun k => Pure.pure (f k))) : decode c pc = .ok (f k, len) := by
  unfold ckS2 at h
  rw [Bool.and_eq_true] at h
  rw [Nat.eq_of_beq_eq_true h.1]
  exact decS2 hb hG h.2
theorem dkInc (hb : tBy c = l) {k : Nat} {d : Int} (h : ckInc l pc (k : Int) d len = true) : decode c pc = .ok (.iinc k d, len) := by
  unfold ckInc at h
  simp only [Bool.and_eq_true] at h
  rw [Nat.eq_of_beq_eq_true h.1]
  exact decInc hb (by simp only [Bool.and_eq_true]; exact ⟨h.2.1, h.2.2.1, nat_beq_of_int h.2.2.2.1, h.2.2.2.2⟩)
theorem dkNA (hb : tBy c = l) (f : Instr) {k : Nat} (h : ckU1 l pc 188 (k : Int) len = true) (hf : ∀ p : Nat, (Decoder.newarray pc : Decoder Instr) c p = (Except.bind ((Reader.u1 : Decoder Nat) c p) fun x => (if x.1 = k then Except.ok (f, x.2) else (Decoder.newarray pc : Decoder Instr) c p))) : decode c pc = .ok (f, len) := by
  unfold ckU1 at h
  simp only [Bool.and_eq_true] at h
  rw [Nat.eq_of_beq_eq_true h.1]
  have h1 : pc + 1 < l.length := Nat.lt_of_lt_of_le (Nat.lt_succ_self _) (Nat.le_of_ble_eq_true h.2.1)
  have := dec_of hb (by omega) (Nat.eq_of_beq_eq_true h.2.2.1) ⟨_, rfl, rfl⟩ (i := f) (nx := pc + 2) (by
    show (Decoder.newarray pc : Decoder Instr) c (pc + 1) = _
    rw [hf, u1_by hb h1 (Nat.eq_of_beq_eq_true (nat_beq_of_int h.2.2.2))]
    show (if k = k then _ else _) = _
    rw [if_pos rfl])
  rw [this, Nat.add_sub_cancel_left]
theorem na_run (k : Nat) (f : Instr) (hk : ∀ n : Nat, ∃ g : Nat → Decoder Instr, (Decoder.newarray pc : Decoder Instr) = (Reader.u1 >>= g) ∧ g k = Pure.pure f) (p : Nat) : (Decoder.newarray pc : Decoder Instr) c p = (Except.bind ((Reader.u1 : Decoder Nat) c p) fun x => (if x.1 = k then Except.ok (f, x.2) else (Decoder.newarray pc : Decoder Instr) c p)) := by
  obtain ⟨g, h1, h2⟩ := hk 0
  cases hu : (Reader.u1 : Decoder Nat) c p with
  | error e =>
    rw [h1]
    show (Except.bind ((Reader.u1 : Decoder Nat) c p) fun x => g x.1 c x.2) = _
    rw [hu]
    rfl
  | ok x =>
    show _ = (if x.1 = k then Except.ok (f, x.2) else _)
    by_cases hx : x.1 = k
    · rw [if_pos hx, h1]
      show (Except.bind ((Reader.u1 : Decoder Nat) c p) fun x => g x.1 c x.2) = _
      rw [hu]
      show g x.1 c x.2 = _
      rw [hx, h2]
      rfl
    · rw [if_neg hx]
theorem okI_ok0 (hb : tBy c = l) (i : Instr) (h : ckA l pc len (kI i) = true) : decode c pc = .ok (i, len) := by
  cases i with
  | nop => exact dk0 hb (n := 0) _ h ⟨_, rfl, rfl⟩
  | aconst_null => exact dk0 hb (n := 1) _ h ⟨_, rfl, rfl⟩
  | iaload => exact dk0 hb (n := 46) _ h ⟨_, rfl, rfl⟩
  | laload => exact dk0 hb (n := 47) _ h ⟨_, rfl, rfl⟩
  | aaload => exact dk0 hb (n := 50) _ h ⟨_, rfl, rfl⟩
  | baload => exact dk0 hb (n := 51) _ h ⟨_, rfl, rfl⟩
  | caload => exact dk0 hb (n := 52) _ h ⟨_, rfl, rfl⟩
  | iastore => exact dk0 hb (n := 79) _ h ⟨_, rfl, rfl⟩
  | lastore => exact dk0 hb (n := 80) _ h ⟨_, rfl, rfl⟩
  | aastore => exact dk0 hb (n := 83) _ h ⟨_, rfl, rfl⟩
  | bastore => exact dk0 hb (n := 84) _ h ⟨_, rfl, rfl⟩
  | castore => exact dk0 hb (n := 85) _ h ⟨_, rfl, rfl⟩
  | pop => exact dk0 hb (n := 87) _ h ⟨_, rfl, rfl⟩
  | dup => exact dk0 hb (n := 89) _ h ⟨_, rfl, rfl⟩
  | dup_x1 => exact dk0 hb (n := 90) _ h ⟨_, rfl, rfl⟩
  | dup2 => exact dk0 hb (n := 92) _ h ⟨_, rfl, rfl⟩
  | iadd => exact dk0 hb (n := 96) _ h ⟨_, rfl, rfl⟩
  | ladd => exact dk0 hb (n := 97) _ h ⟨_, rfl, rfl⟩
  | isub => exact dk0 hb (n := 100) _ h ⟨_, rfl, rfl⟩
  | lsub => exact dk0 hb (n := 101) _ h ⟨_, rfl, rfl⟩
  | imul => exact dk0 hb (n := 104) _ h ⟨_, rfl, rfl⟩
  | lmul => exact dk0 hb (n := 105) _ h ⟨_, rfl, rfl⟩
  | idiv => exact dk0 hb (n := 108) _ h ⟨_, rfl, rfl⟩
  | ldiv => exact dk0 hb (n := 109) _ h ⟨_, rfl, rfl⟩
  | irem => exact dk0 hb (n := 112) _ h ⟨_, rfl, rfl⟩
  | lrem => exact dk0 hb (n := 113) _ h ⟨_, rfl, rfl⟩
  | ineg => exact dk0 hb (n := 116) _ h ⟨_, rfl, rfl⟩
  | lneg => exact dk0 hb (n := 117) _ h ⟨_, rfl, rfl⟩
  | ishl => exact dk0 hb (n := 120) _ h ⟨_, rfl, rfl⟩
  | lshl => exact dk0 hb (n := 121) _ h ⟨_, rfl, rfl⟩
  | ishr => exact dk0 hb (n := 122) _ h ⟨_, rfl, rfl⟩
  | lshr => exact dk0 hb (n := 123) _ h ⟨_, rfl, rfl⟩
  | iushr => exact dk0 hb (n := 124) _ h ⟨_, rfl, rfl⟩
  | lushr => exact dk0 hb (n := 125) _ h ⟨_, rfl, rfl⟩
  | iand => exact dk0 hb (n := 126) _ h ⟨_, rfl, rfl⟩
  | land => exact dk0 hb (n := 127) _ h ⟨_, rfl, rfl⟩
  | ior => exact dk0 hb (n := 128) _ h ⟨_, rfl, rfl⟩
  | lor => exact dk0 hb (n := 129) _ h ⟨_, rfl, rfl⟩
  | ixor => exact dk0 hb (n := 130) _ h ⟨_, rfl, rfl⟩
  | lxor => exact dk0 hb (n := 131) _ h ⟨_, rfl, rfl⟩
  | i2l => exact dk0 hb (n := 133) _ h ⟨_, rfl, rfl⟩
  | l2i => exact dk0 hb (n := 136) _ h ⟨_, rfl, rfl⟩
  | i2b => exact dk0 hb (n := 145) _ h ⟨_, rfl, rfl⟩
  | i2c => exact dk0 hb (n := 146) _ h ⟨_, rfl, rfl⟩
  | lcmp => exact dk0 hb (n := 148) _ h ⟨_, rfl, rfl⟩
  | ireturn => exact dk0 hb (n := 172) _ h ⟨_, rfl, rfl⟩
  | lreturn => exact dk0 hb (n := 173) _ h ⟨_, rfl, rfl⟩
  | areturn => exact dk0 hb (n := 176) _ h ⟨_, rfl, rfl⟩
  | return_ => exact dk0 hb (n := 177) _ h ⟨_, rfl, rfl⟩
  | arraylength => exact dk0 hb (n := 190) _ h ⟨_, rfl, rfl⟩
  | athrow => exact dk0 hb (n := 191) _ h ⟨_, rfl, rfl⟩
  | ldc k => exact dkU1 hb (n := 18) (fun k => .ldc k) h ⟨_, rfl, rfl⟩
  | iload k => exact dkU1 hb (n := 21) (fun k => .iload k) h ⟨_, rfl, rfl⟩
  | lload k => exact dkU1 hb (n := 22) (fun k => .lload k) h ⟨_, rfl, rfl⟩
  | aload k => exact dkU1 hb (n := 25) (fun k => .aload k) h ⟨_, rfl, rfl⟩
  | istore k => exact dkU1 hb (n := 54) (fun k => .istore k) h ⟨_, rfl, rfl⟩
  | lstore k => exact dkU1 hb (n := 55) (fun k => .lstore k) h ⟨_, rfl, rfl⟩
  | astore k => exact dkU1 hb (n := 58) (fun k => .astore k) h ⟨_, rfl, rfl⟩
  | bipush k => exact dkS1 hb (n := 16) (fun k => .bipush k) h ⟨_, rfl, rfl⟩
  | sipush k => exact dkS2 hb (n := 17) (fun k => .sipush k) h ⟨_, rfl, rfl⟩
  | ldc_w k => exact dkU2 hb (n := 19) (fun k => .ldc_w k) h ⟨_, rfl, rfl⟩
  | ldc2_w k => exact dkU2 hb (n := 20) (fun k => .ldc2_w k) h ⟨_, rfl, rfl⟩
  | getstatic k => exact dkU2 hb (n := 178) (fun k => .getstatic k) h ⟨_, rfl, rfl⟩
  | putstatic k => exact dkU2 hb (n := 179) (fun k => .putstatic k) h ⟨_, rfl, rfl⟩
  | getfield k => exact dkU2 hb (n := 180) (fun k => .getfield k) h ⟨_, rfl, rfl⟩
  | putfield k => exact dkU2 hb (n := 181) (fun k => .putfield k) h ⟨_, rfl, rfl⟩
  | invokevirtual k => exact dkU2 hb (n := 182) (fun k => .invokevirtual k) h ⟨_, rfl, rfl⟩
  | invokespecial k => exact dkU2 hb (n := 183) (fun k => .invokespecial k) h ⟨_, rfl, rfl⟩
  | invokestatic k => exact dkU2 hb (n := 184) (fun k => .invokestatic k) h ⟨_, rfl, rfl⟩
  | new k => exact dkU2 hb (n := 187) (fun k => .new k) h ⟨_, rfl, rfl⟩
  | anewarray k => exact dkU2 hb (n := 189) (fun k => .anewarray k) h ⟨_, rfl, rfl⟩
  | checkcast k => exact dkU2 hb (n := 192) (fun k => .checkcast k) h ⟨_, rfl, rfl⟩
  | instanceof k => exact dkU2 hb (n := 193) (fun k => .instanceof k) h ⟨_, rfl, rfl⟩
  | goto k => exact dkS2 hb (n := 167) (fun k => .goto k) h ⟨_, rfl, rfl⟩
  | ifnull k => exact dkS2 hb (n := 198) (fun k => .ifnull k) h ⟨_, rfl, rfl⟩
  | ifnonnull k => exact dkS2 hb (n := 199) (fun k => .ifnonnull k) h ⟨_, rfl, rfl⟩
  | ifCond c k =>
    cases c with
    | eq => exact dkS2 hb (n := 153) (fun k => .ifCond .eq k) h ⟨_, rfl, rfl⟩
    | ne => exact dkS2 hb (n := 154) (fun k => .ifCond .ne k) h ⟨_, rfl, rfl⟩
    | lt => exact dkS2 hb (n := 155) (fun k => .ifCond .lt k) h ⟨_, rfl, rfl⟩
    | ge => exact dkS2 hb (n := 156) (fun k => .ifCond .ge k) h ⟨_, rfl, rfl⟩
    | gt => exact dkS2 hb (n := 157) (fun k => .ifCond .gt k) h ⟨_, rfl, rfl⟩
    | le => exact dkS2 hb (n := 158) (fun k => .ifCond .le k) h ⟨_, rfl, rfl⟩
  | if_icmp c k =>
    cases c with
    | eq => exact dkS2 hb (n := 159) (fun k => .if_icmp .eq k) h ⟨_, rfl, rfl⟩
    | ne => exact dkS2 hb (n := 160) (fun k => .if_icmp .ne k) h ⟨_, rfl, rfl⟩
    | lt => exact dkS2 hb (n := 161) (fun k => .if_icmp .lt k) h ⟨_, rfl, rfl⟩
    | ge => exact dkS2 hb (n := 162) (fun k => .if_icmp .ge k) h ⟨_, rfl, rfl⟩
    | gt => exact dkS2 hb (n := 163) (fun k => .if_icmp .gt k) h ⟨_, rfl, rfl⟩
    | le => exact dkS2 hb (n := 164) (fun k => .if_icmp .le k) h ⟨_, rfl, rfl⟩
  | iload_n k =>
    match k, h with
    | 0, h => exact dk0 hb (n := 26) _ h ⟨_, rfl, rfl⟩
    | 1, h => exact dk0 hb (n := 27) _ h ⟨_, rfl, rfl⟩
    | 2, h => exact dk0 hb (n := 28) _ h ⟨_, rfl, rfl⟩
    | 3, h => exact dk0 hb (n := 29) _ h ⟨_, rfl, rfl⟩
  | lload_n k =>
    match k, h with
    | 0, h => exact dk0 hb (n := 30) _ h ⟨_, rfl, rfl⟩
    | 1, h => exact dk0 hb (n := 31) _ h ⟨_, rfl, rfl⟩
    | 2, h => exact dk0 hb (n := 32) _ h ⟨_, rfl, rfl⟩
    | 3, h => exact dk0 hb (n := 33) _ h ⟨_, rfl, rfl⟩
  | aload_n k =>
    match k, h with
    | 0, h => exact dk0 hb (n := 42) _ h ⟨_, rfl, rfl⟩
    | 1, h => exact dk0 hb (n := 43) _ h ⟨_, rfl, rfl⟩
    | 2, h => exact dk0 hb (n := 44) _ h ⟨_, rfl, rfl⟩
    | 3, h => exact dk0 hb (n := 45) _ h ⟨_, rfl, rfl⟩
  | istore_n k =>
    match k, h with
    | 0, h => exact dk0 hb (n := 59) _ h ⟨_, rfl, rfl⟩
    | 1, h => exact dk0 hb (n := 60) _ h ⟨_, rfl, rfl⟩
    | 2, h => exact dk0 hb (n := 61) _ h ⟨_, rfl, rfl⟩
    | 3, h => exact dk0 hb (n := 62) _ h ⟨_, rfl, rfl⟩
  | lstore_n k =>
    match k, h with
    | 0, h => exact dk0 hb (n := 63) _ h ⟨_, rfl, rfl⟩
    | 1, h => exact dk0 hb (n := 64) _ h ⟨_, rfl, rfl⟩
    | 2, h => exact dk0 hb (n := 65) _ h ⟨_, rfl, rfl⟩
    | 3, h => exact dk0 hb (n := 66) _ h ⟨_, rfl, rfl⟩
  | astore_n k =>
    match k, h with
    | 0, h => exact dk0 hb (n := 75) _ h ⟨_, rfl, rfl⟩
    | 1, h => exact dk0 hb (n := 76) _ h ⟨_, rfl, rfl⟩
    | 2, h => exact dk0 hb (n := 77) _ h ⟨_, rfl, rfl⟩
    | 3, h => exact dk0 hb (n := 78) _ h ⟨_, rfl, rfl⟩
  | iconst k =>
    by_cases h1 : k = -1
    · subst h1; exact dk0 hb (n := 2) _ h ⟨_, rfl, rfl⟩
    by_cases h2 : k = 0
    · subst h2; exact dk0 hb (n := 3) _ h ⟨_, rfl, rfl⟩
    by_cases h3 : k = 1
    · subst h3; exact dk0 hb (n := 4) _ h ⟨_, rfl, rfl⟩
    by_cases h4 : k = 2
    · subst h4; exact dk0 hb (n := 5) _ h ⟨_, rfl, rfl⟩
    by_cases h5 : k = 3
    · subst h5; exact dk0 hb (n := 6) _ h ⟨_, rfl, rfl⟩
    by_cases h6 : k = 4
    · subst h6; exact dk0 hb (n := 7) _ h ⟨_, rfl, rfl⟩
    by_cases h7 : k = 5
    · subst h7; exact dk0 hb (n := 8) _ h ⟨_, rfl, rfl⟩
    exfalso
    have h8 : kI (.iconst k) = (9, 0, 0, 0) := by
      simp only [kI, if_neg h1, if_neg h2, if_neg h3, if_neg h4, if_neg h5, if_neg h6, if_neg h7]
    rw [h8] at h
    cases h
  | lconst k =>
    match k, h with
    | 0, h => exact dk0 hb (n := 9) _ h ⟨_, rfl, rfl⟩
    | 1, h => exact dk0 hb (n := 10) _ h ⟨_, rfl, rfl⟩
  | iinc k d => exact dkInc hb h
  | newarray t =>
    cases t with
    | boolean => exact dkNA hb (.newarray .boolean) (k := 4) h (na_run 4 _ fun _ => ⟨_, rfl, rfl⟩)
    | char => exact dkNA hb (.newarray .char) (k := 5) h (na_run 5 _ fun _ => ⟨_, rfl, rfl⟩)
    | float => exact dkNA hb (.newarray .float) (k := 6) h (na_run 6 _ fun _ => ⟨_, rfl, rfl⟩)
    | double => exact dkNA hb (.newarray .double) (k := 7) h (na_run 7 _ fun _ => ⟨_, rfl, rfl⟩)
    | byte => exact dkNA hb (.newarray .byte) (k := 8) h (na_run 8 _ fun _ => ⟨_, rfl, rfl⟩)
    | short => exact dkNA hb (.newarray .short) (k := 9) h (na_run 9 _ fun _ => ⟨_, rfl, rfl⟩)
    | int => exact dkNA hb (.newarray .int) (k := 10) h (na_run 10 _ fun _ => ⟨_, rfl, rfl⟩)
    | long => exact dkNA hb (.newarray .long) (k := 11) h (na_run 11 _ fun _ => ⟨_, rfl, rfl⟩)
  | _ => cases h
end DK
theorem tDe {c : ByteArray} {pc : Nat} {i : Instr} {n : Nat} (h : okI (tBy c) (pc, i, n) = true) : decode c pc = .ok (i, n) := okI_ok0 rfl i h
def allD (c : ByteArray) : List (Nat × Instr × Nat) → Prop
  | [] => True
  | (pc, i, n) :: l => decode c pc = .ok (i, n) ∧ allD c l
theorem allD_of {c : ByteArray} : ∀ {l : List (Nat × Instr × Nat)}, l.all (okI (tBy c)) = true → allD c l
  | [], _ => trivial
  | (pc, i, n) :: l, h => by
    rw [List.all_cons, Bool.and_eq_true] at h
    exact ⟨okI_ok0 rfl i h.1, allD_of h.2⟩
