/-! T: arithmetic, comparisons, branches -/
abbrev i32 (x : Int) : Prop := -2147483648 ≤ x ∧ x ≤ 2147483647
abbrev i64 (x : Int) : Prop := -9223372036854775808 ≤ x ∧ x ≤ 9223372036854775807
def w32 (x : Int) : Int := x.bmod 4294967296
theorem t32 {x : Int} (h : i32 x) : (Int32.ofInt x).toInt = x := by
  rw [Int32.toInt_ofInt]
  show x.bmod 4294967296 = x
  exact Int.bmod_eq_of_le (by omega) (by omega)
theorem t64 {x : Int} (h : i64 x) : (Int64.ofInt x).toInt = x := by
  rw [Int64.toInt_ofInt]
  show x.bmod 18446744073709551616 = x
  exact Int.bmod_eq_of_le (by omega) (by omega)
theorem t32i (x : Int32) : i32 x.toInt := by
  have h1 := Int32.le_toInt x
  have h2 := Int32.toInt_lt x
  exact ⟨by omega, by omega⟩
theorem t64i (x : Int64) : i64 x.toInt := by
  have h1 := Int64.le_toInt x
  have h2 := Int64.toInt_lt x
  exact ⟨by omega, by omega⟩
theorem w32_in {x : Int} (h : i32 x) : w32 x = x := Int.bmod_eq_of_le (by omega) (by omega)
theorem w32_i (x : Int) : i32 (w32 x) := by
  have h1 : -(4294967296 / 2) ≤ w32 x := Int.le_bmod (x := x) (m := 4294967296) (by omega)
  have h2 : w32 x < (4294967296 + 1) / 2 := Int.bmod_lt (x := x) (m := 4294967296) (by omega)
  exact ⟨by omega, by omega⟩
theorem w32_of (x : Int) : Int32.ofInt (w32 x) = Int32.ofInt x := by
  apply Int32.toInt_inj.mp
  rw [Int32.toInt_ofInt, Int32.toInt_ofInt]
  exact Int.bmod_bmod
theorem t32_lt {x y : Int} (hx : i32 x) (hy : i32 y) : Int32.ofInt x < Int32.ofInt y ↔ x < y := by
  rw [Int32.lt_iff_toInt_lt, t32 hx, t32 hy]
theorem t32_le {x y : Int} (hx : i32 x) (hy : i32 y) : Int32.ofInt x ≤ Int32.ofInt y ↔ x ≤ y := by
  rw [Int32.le_iff_toInt_le, t32 hx, t32 hy]
theorem t32_eq {x y : Int} (hx : i32 x) (hy : i32 y) : Int32.ofInt x = Int32.ofInt y ↔ x = y := by
  rw [← Int32.toInt_inj, t32 hx, t32 hy]
theorem t64_lt {x y : Int} (hx : i64 x) (hy : i64 y) : Int64.ofInt x < Int64.ofInt y ↔ x < y := by
  rw [Int64.lt_iff_toInt_lt, t64 hx, t64 hy]
theorem t64_eq {x y : Int} (hx : i64 x) (hy : i64 y) : Int64.ofInt x = Int64.ofInt y ↔ x = y := by
  rw [← Int64.toInt_inj, t64 hx, t64 hy]
/-- an operation on two values, on one -/
def o_bin (f : Int → Int → Int) (K : tB) : tB := fun L S h => match S with
  | y :: x :: S' => K L (f x y :: S') h
  | _ => none
def o_un (f : Int → Int) (K : tB) : tB := fun L S h => match S with
  | x :: S' => K L (f x :: S') h
  | _ => none
/-- .. under a guard -/
def o_binG (g : Int → Int → Bool) (f : Int → Int → Int) (K : tB) : tB := fun L S h => match S with
  | y :: x :: S' => if g x y = true then K L (f x y :: S') h else none
  | _ => none
def o_unG (g : Int → Bool) (f : Int → Int) (K : tB) : tB := fun L S h => match S with
  | x :: S' => if g x = true then K L (f x :: S') h else none
  | _ => none
theorem o_bin_some {f : Int → Int → Int} {K : tB} {L S : List Int} {h : tH} {r : tN} (hB : o_bin f K L S h = some r) : ∃ x y S', S = y :: x :: S' ∧ K L (f x y :: S') h = some r := by
  match S, hB with
  | [], hB => cases hB
  | [a], hB => cases hB
  | y :: x :: S', hB => exact ⟨x, y, S', rfl, hB⟩
theorem o_un_some {f : Int → Int} {K : tB} {L S : List Int} {h : tH} {r : tN} (hB : o_un f K L S h = some r) : ∃ x S', S = x :: S' ∧ K L (f x :: S') h = some r := by
  match S, hB with
  | [], hB => cases hB
  | x :: S', hB => exact ⟨x, S', rfl, hB⟩
theorem o_binG_some {g : Int → Int → Bool} {f : Int → Int → Int} {K : tB} {L S : List Int} {h : tH} {r : tN} (hB : o_binG g f K L S h = some r) : ∃ x y S', S = y :: x :: S' ∧ g x y = true ∧ K L (f x y :: S') h = some r := by
  match S, hB with
  | [], hB => cases hB
  | [a], hB => cases hB
  | y :: x :: S', hB =>
    unfold o_binG at hB
    by_cases hg : g x y = true
    · exact ⟨x, y, S', rfl, hg, by simpa [hg] using hB⟩
    · simp [hg] at hB
theorem o_unG_some {g : Int → Bool} {f : Int → Int} {K : tB} {L S : List Int} {h : tH} {r : tN} (hB : o_unG g f K L S h = some r) : ∃ x S', S = x :: S' ∧ g x = true ∧ K L (f x :: S') h = some r := by
  match S, hB with
  | [], hB => cases hB
  | x :: S', hB =>
    unfold o_unG at hB
    by_cases hg : g x = true
    · exact ⟨x, S', rfl, hg, by simpa [hg] using hB⟩
    · simp [hg] at hB
def f_add (x y : Int) : Int := x + y
def f_sub (x y : Int) : Int := x - y
def f_mul (x y : Int) : Int := x * y
def f_neg (x : Int) : Int := -x
def f_id (x : Int) : Int := x
def f_addw (x y : Int) : Int := w32 (x + y)
def f_subw (x y : Int) : Int := w32 (x - y)
def f_mulw (x y : Int) : Int := w32 (x * y)
def f_negw (x : Int) : Int := w32 (-x)
def f_and (x y : Int) : Int := (Int32.ofInt x &&& Int32.ofInt y).toInt
def f_or (x y : Int) : Int := (Int32.ofInt x ||| Int32.ofInt y).toInt
def f_xor (x y : Int) : Int := (Int32.ofInt x ^^^ Int32.ofInt y).toInt
def f_land (x y : Int) : Int := (Int64.ofInt x &&& Int64.ofInt y).toInt
def f_lor (x y : Int) : Int := (Int64.ofInt x ||| Int64.ofInt y).toInt
def f_div (x y : Int) : Int := Int.tdiv x y
def f_rem (x y : Int) : Int := Int.tmod x y
def f_shl (x y : Int) : Int := (Int32.ofInt x <<< (Int32.ofInt y &&& 31)).toInt
def f_shr (x y : Int) : Int := (Int32.ofInt x >>> (Int32.ofInt y &&& 31)).toInt
def f_lshl (x y : Int) : Int := (Int64.ofInt x <<< ((Int32.ofInt y).toInt64 &&& 63)).toInt
def f_lshr (x y : Int) : Int := (Int64.ofInt x >>> ((Int32.ofInt y).toInt64 &&& 63)).toInt
def f_lushr (x y : Int) : Int := ((Int64.ofInt x).toUInt64 >>> ((Int32.ofInt y).toInt64.toUInt64 &&& Int64.toUInt64 63)).toInt64.toInt
def f_i2b (x : Int) : Int := (Int32.ofInt x).toInt8.toInt32.toInt
def f_i2c (x : Int) : Int := ((Int32.ofInt x).toUInt32 % 65536).toInt32.toInt
def g_div (x y : Int) : Bool := decide (i32 x ∧ i32 y ∧ y ≠ 0)
def g_ldiv (x y : Int) : Bool := decide (i64 x ∧ i64 y ∧ y ≠ 0)
def g_32 (x : Int) : Bool := decide (i32 x)
theorem t_bb (x : Int) : (x.bmod (2 ^ 64)).bmod (2 ^ 32) = x.bmod (2 ^ 32) := Int.bmod_bmod_of_dvd ⟨2 ^ 32, by decide⟩
theorem t_div0 {x y : Int} (hx : i32 x) (hy : i32 y) : Int32.ofInt (Int.tdiv x y) = Int32.ofInt x / Int32.ofInt y := by
  apply Int32.toInt_inj.mp
  rw [Int32.toInt_div, t32 hx, t32 hy, Int32.toInt_ofInt]
theorem t_div1 {x y : Int} (hx : i64 x) (hy : i64 y) : Int64.ofInt (Int.tdiv x y) = Int64.ofInt x / Int64.ofInt y := by
  apply Int64.toInt_inj.mp
  rw [Int64.toInt_div, t64 hx, t64 hy, Int64.toInt_ofInt]
theorem t_rem0 {x y : Int} (hx : i32 x) (hy : i32 y) : Int32.ofInt (Int.tmod x y) = Int32.ofInt x - Int32.ofInt x / Int32.ofInt y * Int32.ofInt y := by
  rw [← t_div0 hx hy, ← Int32.ofInt_mul, ← Int32.ofInt_sub, Int.tmod_def, Int.mul_comm]
theorem t_rem1 {x y : Int} (hx : i64 x) (hy : i64 y) : Int64.ofInt (Int.tmod x y) = Int64.ofInt x - Int64.ofInt x / Int64.ofInt y * Int64.ofInt y := by
  rw [← t_div1 hx hy, ← Int64.ofInt_mul, ← Int64.ofInt_sub, Int.tmod_def, Int.mul_comm]
section TA
variable {E : tM} {pc : Nat} {lt : List (Nat × Nat)} {ts : List Nat} {K : tB}
theorem s_iadd (hd : decode (tM.cc E) pc = .ok (.iadd, 1)) (hK : tSd E (pc + 1) lt (0 :: ts) K) : tSd E pc lt (0 :: 0 :: ts) (o_bin f_add K) :=
  hK.step fun L S h r hB hS hL => by
    obtain ⟨x, y, S', rfl, hB⟩ := o_bin_some hB
    refine ⟨L, _, hB, by simpa using hS, hL, fun p l e R s m args below meth c n0 u0 fin hC hW ls H locs h1 h2 h3 => ?_⟩
    have hw := hW ls H locs h1 h2 h3
    have he : Int32.ofInt (f_add x y) = Int32.ofInt x + Int32.ofInt y := by unfold f_add; exact Int32.ofInt_add x y
    rw [tSt_cons, tE_0, he] at hw
    exact lv_iadd hC.1 hC.2.1 hd hw
theorem s_iaddw (hd : decode (tM.cc E) pc = .ok (.iadd, 1)) (hK : tSd E (pc + 1) lt (0 :: ts) K) : tSd E pc lt (0 :: 0 :: ts) (o_bin f_addw K) :=
  hK.step fun L S h r hB hS hL => by
    obtain ⟨x, y, S', rfl, hB⟩ := o_bin_some hB
    refine ⟨L, _, hB, by simpa using hS, hL, fun p l e R s m args below meth c n0 u0 fin hC hW ls H locs h1 h2 h3 => ?_⟩
    have hw := hW ls H locs h1 h2 h3
    have he : Int32.ofInt (f_addw x y) = Int32.ofInt x + Int32.ofInt y := by unfold f_addw; rw [w32_of]; exact Int32.ofInt_add x y
    rw [tSt_cons, tE_0, he] at hw
    exact lv_iadd hC.1 hC.2.1 hd hw
theorem s_isub (hd : decode (tM.cc E) pc = .ok (.isub, 1)) (hK : tSd E (pc + 1) lt (0 :: ts) K) : tSd E pc lt (0 :: 0 :: ts) (o_bin f_sub K) :=
  hK.step fun L S h r hB hS hL => by
    obtain ⟨x, y, S', rfl, hB⟩ := o_bin_some hB
    refine ⟨L, _, hB, by simpa using hS, hL, fun p l e R s m args below meth c n0 u0 fin hC hW ls H locs h1 h2 h3 => ?_⟩
    have hw := hW ls H locs h1 h2 h3
    have he : Int32.ofInt (f_sub x y) = Int32.ofInt x - Int32.ofInt y := by unfold f_sub; exact Int32.ofInt_sub x y
    rw [tSt_cons, tE_0, he] at hw
    exact lv_isub hC.1 hC.2.1 hd hw
theorem s_isubw (hd : decode (tM.cc E) pc = .ok (.isub, 1)) (hK : tSd E (pc + 1) lt (0 :: ts) K) : tSd E pc lt (0 :: 0 :: ts) (o_bin f_subw K) :=
  hK.step fun L S h r hB hS hL => by
    obtain ⟨x, y, S', rfl, hB⟩ := o_bin_some hB
    refine ⟨L, _, hB, by simpa using hS, hL, fun p l e R s m args below meth c n0 u0 fin hC hW ls H locs h1 h2 h3 => ?_⟩
    have hw := hW ls H locs h1 h2 h3
    have he : Int32.ofInt (f_subw x y) = Int32.ofInt x - Int32.ofInt y := by unfold f_subw; rw [w32_of]; exact Int32.ofInt_sub x y
    rw [tSt_cons, tE_0, he] at hw
    exact lv_isub hC.1 hC.2.1 hd hw
theorem s_imul (hd : decode (tM.cc E) pc = .ok (.imul, 1)) (hK : tSd E (pc + 1) lt (0 :: ts) K) : tSd E pc lt (0 :: 0 :: ts) (o_bin f_mul K) :=
  hK.step fun L S h r hB hS hL => by
    obtain ⟨x, y, S', rfl, hB⟩ := o_bin_some hB
    refine ⟨L, _, hB, by simpa using hS, hL, fun p l e R s m args below meth c n0 u0 fin hC hW ls H locs h1 h2 h3 => ?_⟩
    have hw := hW ls H locs h1 h2 h3
    have he : Int32.ofInt (f_mul x y) = Int32.ofInt x * Int32.ofInt y := by unfold f_mul; exact Int32.ofInt_mul x y
    rw [tSt_cons, tE_0, he] at hw
    exact lv_imul hC.1 hC.2.1 hd hw
theorem s_imulw (hd : decode (tM.cc E) pc = .ok (.imul, 1)) (hK : tSd E (pc + 1) lt (0 :: ts) K) : tSd E pc lt (0 :: 0 :: ts) (o_bin f_mulw K) :=
  hK.step fun L S h r hB hS hL => by
    obtain ⟨x, y, S', rfl, hB⟩ := o_bin_some hB
    refine ⟨L, _, hB, by simpa using hS, hL, fun p l e R s m args below meth c n0 u0 fin hC hW ls H locs h1 h2 h3 => ?_⟩
    have hw := hW ls H locs h1 h2 h3
    have he : Int32.ofInt (f_mulw x y) = Int32.ofInt x * Int32.ofInt y := by unfold f_mulw; rw [w32_of]; exact Int32.ofInt_mul x y
    rw [tSt_cons, tE_0, he] at hw
    exact lv_imul hC.1 hC.2.1 hd hw
theorem s_ladd (hd : decode (tM.cc E) pc = .ok (.ladd, 1)) (hK : tSd E (pc + 1) lt (1 :: ts) K) : tSd E pc lt (1 :: 1 :: ts) (o_bin f_add K) :=
  hK.step fun L S h r hB hS hL => by
    obtain ⟨x, y, S', rfl, hB⟩ := o_bin_some hB
    refine ⟨L, _, hB, by simpa using hS, hL, fun p l e R s m args below meth c n0 u0 fin hC hW ls H locs h1 h2 h3 => ?_⟩
    have hw := hW ls H locs h1 h2 h3
    have he : Int64.ofInt (f_add x y) = Int64.ofInt x + Int64.ofInt y := by unfold f_add; exact Int64.ofInt_add x y
    rw [tSt_cons, tE_1, he] at hw
    exact lv_ladd hC.1 hC.2.1 hd hw
theorem s_lsub (hd : decode (tM.cc E) pc = .ok (.lsub, 1)) (hK : tSd E (pc + 1) lt (1 :: ts) K) : tSd E pc lt (1 :: 1 :: ts) (o_bin f_sub K) :=
  hK.step fun L S h r hB hS hL => by
    obtain ⟨x, y, S', rfl, hB⟩ := o_bin_some hB
    refine ⟨L, _, hB, by simpa using hS, hL, fun p l e R s m args below meth c n0 u0 fin hC hW ls H locs h1 h2 h3 => ?_⟩
    have hw := hW ls H locs h1 h2 h3
    have he : Int64.ofInt (f_sub x y) = Int64.ofInt x - Int64.ofInt y := by unfold f_sub; exact Int64.ofInt_sub x y
    rw [tSt_cons, tE_1, he] at hw
    exact lv_lsub hC.1 hC.2.1 hd hw
theorem s_lmul (hd : decode (tM.cc E) pc = .ok (.lmul, 1)) (hK : tSd E (pc + 1) lt (1 :: ts) K) : tSd E pc lt (1 :: 1 :: ts) (o_bin f_mul K) :=
  hK.step fun L S h r hB hS hL => by
    obtain ⟨x, y, S', rfl, hB⟩ := o_bin_some hB
    refine ⟨L, _, hB, by simpa using hS, hL, fun p l e R s m args below meth c n0 u0 fin hC hW ls H locs h1 h2 h3 => ?_⟩
    have hw := hW ls H locs h1 h2 h3
    have he : Int64.ofInt (f_mul x y) = Int64.ofInt x * Int64.ofInt y := by unfold f_mul; exact Int64.ofInt_mul x y
    rw [tSt_cons, tE_1, he] at hw
    exact lv_lmul hC.1 hC.2.1 hd hw
theorem s_iand (hd : decode (tM.cc E) pc = .ok (.iand, 1)) (hK : tSd E (pc + 1) lt (0 :: ts) K) : tSd E pc lt (0 :: 0 :: ts) (o_bin f_and K) :=
  hK.step fun L S h r hB hS hL => by
    obtain ⟨x, y, S', rfl, hB⟩ := o_bin_some hB
    refine ⟨L, _, hB, by simpa using hS, hL, fun p l e R s m args below meth c n0 u0 fin hC hW ls H locs h1 h2 h3 => ?_⟩
    have hw := hW ls H locs h1 h2 h3
    have he : Int32.ofInt (f_and x y) = Int32.ofInt x &&& Int32.ofInt y := by unfold f_and; exact Int32.ofInt_toInt _
    rw [tSt_cons, tE_0, he] at hw
    exact lv_iand hC.1 hC.2.1 hd hw
theorem s_ior (hd : decode (tM.cc E) pc = .ok (.ior, 1)) (hK : tSd E (pc + 1) lt (0 :: ts) K) : tSd E pc lt (0 :: 0 :: ts) (o_bin f_or K) :=
  hK.step fun L S h r hB hS hL => by
    obtain ⟨x, y, S', rfl, hB⟩ := o_bin_some hB
    refine ⟨L, _, hB, by simpa using hS, hL, fun p l e R s m args below meth c n0 u0 fin hC hW ls H locs h1 h2 h3 => ?_⟩
    have hw := hW ls H locs h1 h2 h3
    have he : Int32.ofInt (f_or x y) = Int32.ofInt x ||| Int32.ofInt y := by unfold f_or; exact Int32.ofInt_toInt _
    rw [tSt_cons, tE_0, he] at hw
    exact lv_ior hC.1 hC.2.1 hd hw
theorem s_ixor (hd : decode (tM.cc E) pc = .ok (.ixor, 1)) (hK : tSd E (pc + 1) lt (0 :: ts) K) : tSd E pc lt (0 :: 0 :: ts) (o_bin f_xor K) :=
  hK.step fun L S h r hB hS hL => by
    obtain ⟨x, y, S', rfl, hB⟩ := o_bin_some hB
    refine ⟨L, _, hB, by simpa using hS, hL, fun p l e R s m args below meth c n0 u0 fin hC hW ls H locs h1 h2 h3 => ?_⟩
    have hw := hW ls H locs h1 h2 h3
    have he : Int32.ofInt (f_xor x y) = Int32.ofInt x ^^^ Int32.ofInt y := by unfold f_xor; exact Int32.ofInt_toInt _
    rw [tSt_cons, tE_0, he] at hw
    exact lv_ixor hC.1 hC.2.1 hd hw
theorem s_land (hd : decode (tM.cc E) pc = .ok (.land, 1)) (hK : tSd E (pc + 1) lt (1 :: ts) K) : tSd E pc lt (1 :: 1 :: ts) (o_bin f_land K) :=
  hK.step fun L S h r hB hS hL => by
    obtain ⟨x, y, S', rfl, hB⟩ := o_bin_some hB
    refine ⟨L, _, hB, by simpa using hS, hL, fun p l e R s m args below meth c n0 u0 fin hC hW ls H locs h1 h2 h3 => ?_⟩
    have hw := hW ls H locs h1 h2 h3
    have he : Int64.ofInt (f_land x y) = Int64.ofInt x &&& Int64.ofInt y := by unfold f_land; exact Int64.ofInt_toInt _
    rw [tSt_cons, tE_1, he] at hw
    exact lv_land hC.1 hC.2.1 hd hw
theorem s_lor (hd : decode (tM.cc E) pc = .ok (.lor, 1)) (hK : tSd E (pc + 1) lt (1 :: ts) K) : tSd E pc lt (1 :: 1 :: ts) (o_bin f_lor K) :=
  hK.step fun L S h r hB hS hL => by
    obtain ⟨x, y, S', rfl, hB⟩ := o_bin_some hB
    refine ⟨L, _, hB, by simpa using hS, hL, fun p l e R s m args below meth c n0 u0 fin hC hW ls H locs h1 h2 h3 => ?_⟩
    have hw := hW ls H locs h1 h2 h3
    have he : Int64.ofInt (f_lor x y) = Int64.ofInt x ||| Int64.ofInt y := by unfold f_lor; exact Int64.ofInt_toInt _
    rw [tSt_cons, tE_1, he] at hw
    exact lv_lor hC.1 hC.2.1 hd hw
theorem s_ishl (hd : decode (tM.cc E) pc = .ok (.ishl, 1)) (hK : tSd E (pc + 1) lt (0 :: ts) K) : tSd E pc lt (0 :: 0 :: ts) (o_bin f_shl K) :=
  hK.step fun L S h r hB hS hL => by
    obtain ⟨x, y, S', rfl, hB⟩ := o_bin_some hB
    refine ⟨L, _, hB, by simpa using hS, hL, fun p l e R s m args below meth c n0 u0 fin hC hW ls H locs h1 h2 h3 => ?_⟩
    have hw := hW ls H locs h1 h2 h3
    have he : Int32.ofInt (f_shl x y) = Int32.ofInt x <<< (Int32.ofInt y &&& 31) := by unfold f_shl; exact Int32.ofInt_toInt _
    rw [tSt_cons, tE_0, he] at hw
    exact lv_ishl hC.1 hC.2.1 hd hw
theorem s_ishr (hd : decode (tM.cc E) pc = .ok (.ishr, 1)) (hK : tSd E (pc + 1) lt (0 :: ts) K) : tSd E pc lt (0 :: 0 :: ts) (o_bin f_shr K) :=
  hK.step fun L S h r hB hS hL => by
    obtain ⟨x, y, S', rfl, hB⟩ := o_bin_some hB
    refine ⟨L, _, hB, by simpa using hS, hL, fun p l e R s m args below meth c n0 u0 fin hC hW ls H locs h1 h2 h3 => ?_⟩
    have hw := hW ls H locs h1 h2 h3
    have he : Int32.ofInt (f_shr x y) = Int32.ofInt x >>> (Int32.ofInt y &&& 31) := by unfold f_shr; exact Int32.ofInt_toInt _
    rw [tSt_cons, tE_0, he] at hw
    exact lv_ishr hC.1 hC.2.1 hd hw
theorem s_ineg (hd : decode (tM.cc E) pc = .ok (.ineg, 1)) (hK : tSd E (pc + 1) lt (0 :: ts) K) : tSd E pc lt (0 :: ts) (o_un f_neg K) :=
  hK.step fun L S h r hB hS hL => by
    obtain ⟨x, S', rfl, hB⟩ := o_un_some hB
    refine ⟨L, _, hB, by simpa using hS, hL, fun p l e R s m args below meth c n0 u0 fin hC hW ls H locs h1 h2 h3 => ?_⟩
    have hw := hW ls H locs h1 h2 h3
    have he : Int32.ofInt (f_neg x) = -Int32.ofInt x := by unfold f_neg; exact Int32.ofInt_neg x
    rw [tSt_cons, tE_0, he] at hw
    exact lv_ineg hC.1 hC.2.1 hd hw
theorem s_inegw (hd : decode (tM.cc E) pc = .ok (.ineg, 1)) (hK : tSd E (pc + 1) lt (0 :: ts) K) : tSd E pc lt (0 :: ts) (o_un f_negw K) :=
  hK.step fun L S h r hB hS hL => by
    obtain ⟨x, S', rfl, hB⟩ := o_un_some hB
    refine ⟨L, _, hB, by simpa using hS, hL, fun p l e R s m args below meth c n0 u0 fin hC hW ls H locs h1 h2 h3 => ?_⟩
    have hw := hW ls H locs h1 h2 h3
    have he : Int32.ofInt (f_negw x) = -Int32.ofInt x := by unfold f_negw; rw [w32_of]; exact Int32.ofInt_neg x
    rw [tSt_cons, tE_0, he] at hw
    exact lv_ineg hC.1 hC.2.1 hd hw
theorem s_lneg (hd : decode (tM.cc E) pc = .ok (.lneg, 1)) (hK : tSd E (pc + 1) lt (1 :: ts) K) : tSd E pc lt (1 :: ts) (o_un f_neg K) :=
  hK.step fun L S h r hB hS hL => by
    obtain ⟨x, S', rfl, hB⟩ := o_un_some hB
    refine ⟨L, _, hB, by simpa using hS, hL, fun p l e R s m args below meth c n0 u0 fin hC hW ls H locs h1 h2 h3 => ?_⟩
    have hw := hW ls H locs h1 h2 h3
    have he : Int64.ofInt (f_neg x) = -Int64.ofInt x := by unfold f_neg; exact Int64.ofInt_neg x
    rw [tSt_cons, tE_1, he] at hw
    exact lv_lneg hC.1 hC.2.1 hd hw
theorem s_lshl (hd : decode (tM.cc E) pc = .ok (.lshl, 1)) (hK : tSd E (pc + 1) lt (1 :: ts) K) : tSd E pc lt (0 :: 1 :: ts) (o_bin f_lshl K) :=
  hK.step fun L S h r hB hS hL => by
    obtain ⟨x, y, S', rfl, hB⟩ := o_bin_some hB
    refine ⟨L, _, hB, by simpa using hS, hL, fun p l e R s m args below meth c n0 u0 fin hC hW ls H locs h1 h2 h3 => ?_⟩
    have hw := hW ls H locs h1 h2 h3
    have he : Int64.ofInt (f_lshl x y) = Int64.ofInt x <<< ((Int32.ofInt y).toInt64 &&& 63) := by unfold f_lshl; exact Int64.ofInt_toInt _
    rw [tSt_cons, tE_1, he] at hw
    exact lv_lshl hC.1 hC.2.1 hd rfl hw
theorem s_lshr (hd : decode (tM.cc E) pc = .ok (.lshr, 1)) (hK : tSd E (pc + 1) lt (1 :: ts) K) : tSd E pc lt (0 :: 1 :: ts) (o_bin f_lshr K) :=
  hK.step fun L S h r hB hS hL => by
    obtain ⟨x, y, S', rfl, hB⟩ := o_bin_some hB
    refine ⟨L, _, hB, by simpa using hS, hL, fun p l e R s m args below meth c n0 u0 fin hC hW ls H locs h1 h2 h3 => ?_⟩
    have hw := hW ls H locs h1 h2 h3
    have he : Int64.ofInt (f_lshr x y) = Int64.ofInt x >>> ((Int32.ofInt y).toInt64 &&& 63) := by unfold f_lshr; exact Int64.ofInt_toInt _
    rw [tSt_cons, tE_1, he] at hw
    exact lv_lshr hC.1 hC.2.1 hd rfl hw
theorem s_lushr (hd : decode (tM.cc E) pc = .ok (.lushr, 1)) (hK : tSd E (pc + 1) lt (1 :: ts) K) : tSd E pc lt (0 :: 1 :: ts) (o_bin f_lushr K) :=
  hK.step fun L S h r hB hS hL => by
    obtain ⟨x, y, S', rfl, hB⟩ := o_bin_some hB
    refine ⟨L, _, hB, by simpa using hS, hL, fun p l e R s m args below meth c n0 u0 fin hC hW ls H locs h1 h2 h3 => ?_⟩
    have hw := hW ls H locs h1 h2 h3
    have he : Int64.ofInt (f_lushr x y) = ((Int64.ofInt x).toUInt64 >>> ((Int32.ofInt y).toInt64.toUInt64 &&& Int64.toUInt64 63)).toInt64 := by unfold f_lushr; exact Int64.ofInt_toInt _
    rw [tSt_cons, tE_1, he] at hw
    exact lv_lushr hC.1 hC.2.1 hd rfl hw
theorem s_idiv (hd : decode (tM.cc E) pc = .ok (.idiv, 1)) (hK : tSd E (pc + 1) lt (0 :: ts) K) : tSd E pc lt (0 :: 0 :: ts) (o_binG g_div f_div K) :=
  hK.step fun L S h r hB hS hL => by
    obtain ⟨x, y, S', rfl, hg, hB⟩ := o_binG_some hB
    obtain ⟨a1, a2, a3⟩ := of_decide_eq_true hg
    refine ⟨L, _, hB, by simpa using hS, hL, fun p l e R s m args below meth c n0 u0 fin hC hW ls H locs h1 h2 h3 => ?_⟩
    have hw := hW ls H locs h1 h2 h3
    have he : Int32.ofInt (f_div x y) = Int32.ofInt x / Int32.ofInt y := by unfold f_div; exact t_div0 a1 a2
    rw [tSt_cons, tE_0, he] at hw
    refine lv_idiv hC.1 hC.2.1 hd (fun q => a3 ?_) hw
    have q2 := congrArg Int32.toInt q
    rw [t32 a2] at q2
    exact q2
theorem s_irem (hd : decode (tM.cc E) pc = .ok (.irem, 1)) (hK : tSd E (pc + 1) lt (0 :: ts) K) : tSd E pc lt (0 :: 0 :: ts) (o_binG g_div f_rem K) :=
  hK.step fun L S h r hB hS hL => by
    obtain ⟨x, y, S', rfl, hg, hB⟩ := o_binG_some hB
    obtain ⟨a1, a2, a3⟩ := of_decide_eq_true hg
    refine ⟨L, _, hB, by simpa using hS, hL, fun p l e R s m args below meth c n0 u0 fin hC hW ls H locs h1 h2 h3 => ?_⟩
    have hw := hW ls H locs h1 h2 h3
    have he : Int32.ofInt (f_rem x y) = Int32.ofInt x - Int32.ofInt x / Int32.ofInt y * Int32.ofInt y := by unfold f_rem; exact t_rem0 a1 a2
    rw [tSt_cons, tE_0, he] at hw
    refine lv_irem hC.1 hC.2.1 hd (fun q => a3 ?_) hw
    have q2 := congrArg Int32.toInt q
    rw [t32 a2] at q2
    exact q2
theorem s_ldiv (hd : decode (tM.cc E) pc = .ok (.ldiv, 1)) (hK : tSd E (pc + 1) lt (1 :: ts) K) : tSd E pc lt (1 :: 1 :: ts) (o_binG g_ldiv f_div K) :=
  hK.step fun L S h r hB hS hL => by
    obtain ⟨x, y, S', rfl, hg, hB⟩ := o_binG_some hB
    obtain ⟨a1, a2, a3⟩ := of_decide_eq_true hg
    refine ⟨L, _, hB, by simpa using hS, hL, fun p l e R s m args below meth c n0 u0 fin hC hW ls H locs h1 h2 h3 => ?_⟩
    have hw := hW ls H locs h1 h2 h3
    have he : Int64.ofInt (f_div x y) = Int64.ofInt x / Int64.ofInt y := by unfold f_div; exact t_div1 a1 a2
    rw [tSt_cons, tE_1, he] at hw
    refine lv_ldiv hC.1 hC.2.1 hd (fun q => a3 ?_) hw
    have q2 := congrArg Int64.toInt q
    rw [t64 a2] at q2
    exact q2
theorem s_lrem (hd : decode (tM.cc E) pc = .ok (.lrem, 1)) (hK : tSd E (pc + 1) lt (1 :: ts) K) : tSd E pc lt (1 :: 1 :: ts) (o_binG g_ldiv f_rem K) :=
  hK.step fun L S h r hB hS hL => by
    obtain ⟨x, y, S', rfl, hg, hB⟩ := o_binG_some hB
    obtain ⟨a1, a2, a3⟩ := of_decide_eq_true hg
    refine ⟨L, _, hB, by simpa using hS, hL, fun p l e R s m args below meth c n0 u0 fin hC hW ls H locs h1 h2 h3 => ?_⟩
    have hw := hW ls H locs h1 h2 h3
    have he : Int64.ofInt (f_rem x y) = Int64.ofInt x - Int64.ofInt x / Int64.ofInt y * Int64.ofInt y := by unfold f_rem; exact t_rem1 a1 a2
    rw [tSt_cons, tE_1, he] at hw
    refine lv_lrem hC.1 hC.2.1 hd (fun q => a3 ?_) hw
    have q2 := congrArg Int64.toInt q
    rw [t64 a2] at q2
    exact q2
theorem s_i2l (hd : decode (tM.cc E) pc = .ok (.i2l, 1)) (hK : tSd E (pc + 1) lt (1 :: ts) K) : tSd E pc lt (0 :: ts) (o_unG g_32 f_id K) :=
  hK.step fun L S h r hB hS hL => by
    obtain ⟨x, S', rfl, hg, hB⟩ := o_unG_some hB
    have a1 : i32 x := of_decide_eq_true hg
    refine ⟨L, _, hB, by simpa using hS, hL, fun p l e R s m args below meth c n0 u0 fin hC hW ls H locs h1 h2 h3 => ?_⟩
    have hw := hW ls H locs h1 h2 h3
    have he : (Int32.ofInt x).toInt64 = Int64.ofInt (f_id x) := by
      apply Int64.toInt_inj.mp
      unfold f_id
      rw [Int32.toInt_toInt64, t32 a1, t64 ⟨by omega, by omega⟩]
    exact lv_i2l hC.1 hC.2.1 hd he hw
theorem s_l2i (hd : decode (tM.cc E) pc = .ok (.l2i, 1)) (hK : tSd E (pc + 1) lt (0 :: ts) K) : tSd E pc lt (1 :: ts) (o_un w32 K) :=
  hK.step fun L S h r hB hS hL => by
    obtain ⟨x, S', rfl, hB⟩ := o_un_some hB
    refine ⟨L, _, hB, by simpa using hS, hL, fun p l e R s m args below meth c n0 u0 fin hC hW ls H locs h1 h2 h3 => ?_⟩
    have hw := hW ls H locs h1 h2 h3
    have he : (Int64.ofInt x).toInt32 = Int32.ofInt (w32 x) := by
      rw [w32_of]
      apply Int32.toInt_inj.mp
      rw [Int64.toInt_toInt32, Int64.toInt_ofInt, Int32.toInt_ofInt]
      exact t_bb x
    exact lv_l2i hC.1 hC.2.1 hd he hw
theorem s_i2b (hd : decode (tM.cc E) pc = .ok (.i2b, 1)) (hK : tSd E (pc + 1) lt (0 :: ts) K) : tSd E pc lt (0 :: ts) (o_un f_i2b K) :=
  hK.step fun L S h r hB hS hL => by
    obtain ⟨x, S', rfl, hB⟩ := o_un_some hB
    refine ⟨L, _, hB, by simpa using hS, hL, fun p l e R s m args below meth c n0 u0 fin hC hW ls H locs h1 h2 h3 => ?_⟩
    exact lv_i2b hC.1 hC.2.1 hd (by unfold f_i2b; exact (Int32.ofInt_toInt _).symm) (hW ls H locs h1 h2 h3)
theorem s_i2c (hd : decode (tM.cc E) pc = .ok (.i2c, 1)) (hK : tSd E (pc + 1) lt (0 :: ts) K) : tSd E pc lt (0 :: ts) (o_un f_i2c K) :=
  hK.step fun L S h r hB hS hL => by
    obtain ⟨x, S', rfl, hB⟩ := o_un_some hB
    refine ⟨L, _, hB, by simpa using hS, hL, fun p l e R s m args below meth c n0 u0 fin hC hW ls H locs h1 h2 h3 => ?_⟩
    exact lv_i2c hC.1 hC.2.1 hd (by unfold f_i2c; exact (Int32.ofInt_toInt _).symm) (hW ls H locs h1 h2 h3)
end TA
