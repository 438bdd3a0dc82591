/-! tables of blocks; constants -/
abbrev tTe : Type := Nat × (List (Nat × Nat) × List Nat) × tX
def tLk : List tTe → Nat → (List (Nat × Nat) × List Nat) × tX
  | [], _ => (([], []), mx_none)
  | q :: l, pc => bif Nat.beq q.1 pc then q.2 else tLk l pc
def tTy (l : List tTe) (pc : Nat) : List (Nat × Nat) × List Nat := (tLk l pc).1
def tBk (l : List tTe) (pc : Nat) : tX := (tLk l pc).2
theorem tLk_ok {E : tM} {pc : Nat} : ∀ {l : List tTe}, (∀ q ∈ l, tSx E q.1 q.2.1.1 q.2.1.2 q.2.2) → tSd E pc (tLk l pc).1.1 (tLk l pc).1.2 (tLk l pc).2.1.1
  | [], _ => s_none
  | q :: l, h => by
    unfold tLk
    cases hq : Nat.beq q.1 pc with
    | true =>
      rw [← Nat.eq_of_beq_eq_true hq]
      exact h q List.mem_cons_self
    | false => exact tLk_ok fun x hx => h x (List.mem_cons_of_mem _ hx)
theorem tTb {E : tM} {l : List tTe} (he : tM.te E = tTy l) (h : ∀ q ∈ l, tSx E q.1 q.2.1.1 q.2.1.2 q.2.2) : ∀ pc, tSd E pc (tTy l pc).1 (tTy l pc).2 (tBk l pc).1.1 := fun pc => tLk_ok h
theorem t_castN {c : Nat} {q : vw_C} (hc9 : c < 1000) (hc : xcl c = some q) (D : tD) (s : State) (hK : tK D s) : s.vm.findClass q.1 = some (tCls D c) := by
  obtain ⟨-, hfc, -⟩ := hK.1 c q hc
  unfold tCls
  rw [if_pos hc9]
  exact hfc
theorem bp_m128 : (Int8.ofInt (-128)).toInt32 = Int32.ofInt (-128) := by decide +kernel
theorem bp_m50 : (Int8.ofInt (-50)).toInt32 = Int32.ofInt (-50) := by decide +kernel
theorem bp_m14 : (Int8.ofInt (-14)).toInt32 = Int32.ofInt (-14) := by decide +kernel
theorem bp_m13 : (Int8.ofInt (-13)).toInt32 = Int32.ofInt (-13) := by decide +kernel
theorem bp_m12 : (Int8.ofInt (-12)).toInt32 = Int32.ofInt (-12) := by decide +kernel
theorem bp_m3 : (Int8.ofInt (-3)).toInt32 = Int32.ofInt (-3) := by decide +kernel
theorem bp_m2 : (Int8.ofInt (-2)).toInt32 = Int32.ofInt (-2) := by decide +kernel
theorem bp_6 : (Int8.ofInt 6).toInt32 = Int32.ofInt 6 := by decide +kernel
theorem bp_7 : (Int8.ofInt 7).toInt32 = Int32.ofInt 7 := by decide +kernel
theorem bp_8 : (Int8.ofInt 8).toInt32 = Int32.ofInt 8 := by decide +kernel
theorem bp_9 : (Int8.ofInt 9).toInt32 = Int32.ofInt 9 := by decide +kernel
theorem bp_10 : (Int8.ofInt 10).toInt32 = Int32.ofInt 10 := by decide +kernel
theorem bp_11 : (Int8.ofInt 11).toInt32 = Int32.ofInt 11 := by decide +kernel
theorem bp_12 : (Int8.ofInt 12).toInt32 = Int32.ofInt 12 := by decide +kernel
theorem bp_13 : (Int8.ofInt 13).toInt32 = Int32.ofInt 13 := by decide +kernel
theorem bp_14 : (Int8.ofInt 14).toInt32 = Int32.ofInt 14 := by decide +kernel
theorem bp_15 : (Int8.ofInt 15).toInt32 = Int32.ofInt 15 := by decide +kernel
theorem bp_16 : (Int8.ofInt 16).toInt32 = Int32.ofInt 16 := by decide +kernel
theorem bp_17 : (Int8.ofInt 17).toInt32 = Int32.ofInt 17 := by decide +kernel
theorem bp_18 : (Int8.ofInt 18).toInt32 = Int32.ofInt 18 := by decide +kernel
theorem bp_19 : (Int8.ofInt 19).toInt32 = Int32.ofInt 19 := by decide +kernel
theorem bp_20 : (Int8.ofInt 20).toInt32 = Int32.ofInt 20 := by decide +kernel
theorem bp_21 : (Int8.ofInt 21).toInt32 = Int32.ofInt 21 := by decide +kernel
theorem bp_22 : (Int8.ofInt 22).toInt32 = Int32.ofInt 22 := by decide +kernel
theorem bp_23 : (Int8.ofInt 23).toInt32 = Int32.ofInt 23 := by decide +kernel
theorem bp_24 : (Int8.ofInt 24).toInt32 = Int32.ofInt 24 := by decide +kernel
theorem bp_30 : (Int8.ofInt 30).toInt32 = Int32.ofInt 30 := by decide +kernel
theorem bp_31 : (Int8.ofInt 31).toInt32 = Int32.ofInt 31 := by decide +kernel
theorem bp_32 : (Int8.ofInt 32).toInt32 = Int32.ofInt 32 := by decide +kernel
theorem bp_35 : (Int8.ofInt 35).toInt32 = Int32.ofInt 35 := by decide +kernel
theorem bp_37 : (Int8.ofInt 37).toInt32 = Int32.ofInt 37 := by decide +kernel
theorem bp_40 : (Int8.ofInt 40).toInt32 = Int32.ofInt 40 := by decide +kernel
theorem bp_41 : (Int8.ofInt 41).toInt32 = Int32.ofInt 41 := by decide +kernel
theorem bp_42 : (Int8.ofInt 42).toInt32 = Int32.ofInt 42 := by decide +kernel
theorem bp_43 : (Int8.ofInt 43).toInt32 = Int32.ofInt 43 := by decide +kernel
theorem bp_44 : (Int8.ofInt 44).toInt32 = Int32.ofInt 44 := by decide +kernel
theorem bp_45 : (Int8.ofInt 45).toInt32 = Int32.ofInt 45 := by decide +kernel
theorem bp_47 : (Int8.ofInt 47).toInt32 = Int32.ofInt 47 := by decide +kernel
theorem bp_48 : (Int8.ofInt 48).toInt32 = Int32.ofInt 48 := by decide +kernel
theorem bp_50 : (Int8.ofInt 50).toInt32 = Int32.ofInt 50 := by decide +kernel
theorem bp_57 : (Int8.ofInt 57).toInt32 = Int32.ofInt 57 := by decide +kernel
theorem bp_58 : (Int8.ofInt 58).toInt32 = Int32.ofInt 58 := by decide +kernel
theorem bp_60 : (Int8.ofInt 60).toInt32 = Int32.ofInt 60 := by decide +kernel
theorem bp_61 : (Int8.ofInt 61).toInt32 = Int32.ofInt 61 := by decide +kernel
theorem bp_62 : (Int8.ofInt 62).toInt32 = Int32.ofInt 62 := by decide +kernel
theorem bp_63 : (Int8.ofInt 63).toInt32 = Int32.ofInt 63 := by decide +kernel
theorem bp_64 : (Int8.ofInt 64).toInt32 = Int32.ofInt 64 := by decide +kernel
theorem bp_65 : (Int8.ofInt 65).toInt32 = Int32.ofInt 65 := by decide +kernel
theorem bp_76 : (Int8.ofInt 76).toInt32 = Int32.ofInt 76 := by decide +kernel
theorem bp_80 : (Int8.ofInt 80).toInt32 = Int32.ofInt 80 := by decide +kernel
theorem bp_96 : (Int8.ofInt 96).toInt32 = Int32.ofInt 96 := by decide +kernel
theorem bp_97 : (Int8.ofInt 97).toInt32 = Int32.ofInt 97 := by decide +kernel
theorem bp_100 : (Int8.ofInt 100).toInt32 = Int32.ofInt 100 := by decide +kernel
theorem bp_106 : (Int8.ofInt 106).toInt32 = Int32.ofInt 106 := by decide +kernel
theorem bp_122 : (Int8.ofInt 122).toInt32 = Int32.ofInt 122 := by decide +kernel
theorem sp_128 : (Int16.ofInt 128).toInt32 = Int32.ofInt 128 := by decide +kernel
theorem sp_200 : (Int16.ofInt 200).toInt32 = Int32.ofInt 200 := by decide +kernel
theorem sp_255 : (Int16.ofInt 255).toInt32 = Int32.ofInt 255 := by decide +kernel
theorem sp_300 : (Int16.ofInt 300).toInt32 = Int32.ofInt 300 := by decide +kernel
theorem sp_400 : (Int16.ofInt 400).toInt32 = Int32.ofInt 400 := by decide +kernel
theorem sp_512 : (Int16.ofInt 512).toInt32 = Int32.ofInt 512 := by decide +kernel
theorem sp_600 : (Int16.ofInt 600).toInt32 = Int32.ofInt 600 := by decide +kernel
theorem sp_1000 : (Int16.ofInt 1000).toInt32 = Int32.ofInt 1000 := by decide +kernel
theorem sp_1024 : (Int16.ofInt 1024).toInt32 = Int32.ofInt 1024 := by decide +kernel
theorem sp_2000 : (Int16.ofInt 2000).toInt32 = Int32.ofInt 2000 := by decide +kernel
theorem sp_2002 : (Int16.ofInt 2002).toInt32 = Int32.ofInt 2002 := by decide +kernel
theorem sp_2500 : (Int16.ofInt 2500).toInt32 = Int32.ofInt 2500 := by decide +kernel
theorem sp_4000 : (Int16.ofInt 4000).toInt32 = Int32.ofInt 4000 := by decide +kernel
theorem sp_6000 : (Int16.ofInt 6000).toInt32 = Int32.ofInt 6000 := by decide +kernel
theorem sp_6002 : (Int16.ofInt 6002).toInt32 = Int32.ofInt 6002 := by decide +kernel
theorem sp_9000 : (Int16.ofInt 9000).toInt32 = Int32.ofInt 9000 := by decide +kernel
theorem sp_9001 : (Int16.ofInt 9001).toInt32 = Int32.ofInt 9001 := by decide +kernel
theorem sp_9002 : (Int16.ofInt 9002).toInt32 = Int32.ofInt 9002 := by decide +kernel
theorem sp_10000 : (Int16.ofInt 10000).toInt32 = Int32.ofInt 10000 := by decide +kernel
theorem sp_16000 : (Int16.ofInt 16000).toInt32 = Int32.ofInt 16000 := by decide +kernel
theorem sp_16383 : (Int16.ofInt 16383).toInt32 = Int32.ofInt 16383 := by decide +kernel
theorem sp_16384 : (Int16.ofInt 16384).toInt32 = Int32.ofInt 16384 := by decide +kernel
theorem sp_18000 : (Int16.ofInt 18000).toInt32 = Int32.ofInt 18000 := by decide +kernel
theorem sp_18001 : (Int16.ofInt 18001).toInt32 = Int32.ofInt 18001 := by decide +kernel
theorem sp_20000 : (Int16.ofInt 20000).toInt32 = Int32.ofInt 20000 := by decide +kernel
theorem kc_m1000000014 : (-1000000014 : Int32) = Int32.ofInt (-1000000014) := by decide +kernel
theorem kc_m999999999 : (-999999999 : Int32) = Int32.ofInt (-999999999) := by decide +kernel
theorem kc_m1000000 : (-1000000 : Int32) = Int32.ofInt (-1000000) := by decide +kernel
theorem kc_m500000 : (-500000 : Int32) = Int32.ofInt (-500000) := by decide +kernel
theorem kc_40000 : (40000 : Int32) = Int32.ofInt 40000 := by decide +kernel
theorem kc_60000 : (60000 : Int32) = Int32.ofInt 60000 := by decide +kernel
theorem kc_65536 : (65536 : Int32) = Int32.ofInt 65536 := by decide +kernel
theorem kc_144032 : (144032 : Int32) = Int32.ofInt 144032 := by decide +kernel
theorem kc_500000 : (500000 : Int32) = Int32.ofInt 500000 := by decide +kernel
theorem kc_1000000 : (1000000 : Int32) = Int32.ofInt 1000000 := by decide +kernel
theorem kc_999999999 : (999999999 : Int32) = Int32.ofInt 999999999 := by decide +kernel
theorem kc_1073741823 : (1073741823 : Int32) = Int32.ofInt 1073741823 := by decide +kernel
theorem kc_2147483639 : (2147483639 : Int32) = Int32.ofInt 2147483639 := by decide +kernel
theorem kc_2147483647 : (2147483647 : Int32) = Int32.ofInt 2147483647 := by decide +kernel
theorem kl_m7046029254386353131 : (-7046029254386353131 : Int64) = Int64.ofInt (-7046029254386353131) := by decide +kernel
theorem kl_m14 : (-14 : Int64) = Int64.ofInt (-14) := by decide +kernel
theorem kl_m13 : (-13 : Int64) = Int64.ofInt (-13) := by decide +kernel
theorem kl_m3 : (-3 : Int64) = Int64.ofInt (-3) := by decide +kernel
theorem kl_m1 : (-1 : Int64) = Int64.ofInt (-1) := by decide +kernel
theorem kl_2 : (2 : Int64) = Int64.ofInt 2 := by decide +kernel
theorem kl_511 : (511 : Int64) = Int64.ofInt 511 := by decide +kernel
theorem kl_1000 : (1000 : Int64) = Int64.ofInt 1000 := by decide +kernel
theorem kl_8191 : (8191 : Int64) = Int64.ofInt 8191 := by decide +kernel
theorem kl_32767 : (32767 : Int64) = Int64.ofInt 32767 := by decide +kernel
theorem kl_1000000 : (1000000 : Int64) = Int64.ofInt 1000000 := by decide +kernel
theorem kl_1048575 : (1048575 : Int64) = Int64.ofInt 1048575 := by decide +kernel
theorem kl_2097151 : (2097151 : Int64) = Int64.ofInt 2097151 := by decide +kernel
theorem kl_2097152 : (2097152 : Int64) = Int64.ofInt 2097152 := by decide +kernel
theorem kl_1073741824 : (1073741824 : Int64) = Int64.ofInt 1073741824 := by decide +kernel
theorem kl_2147483648 : (2147483648 : Int64) = Int64.ofInt 2147483648 := by decide +kernel
theorem kl_3000000000 : (3000000000 : Int64) = Int64.ofInt 3000000000 := by decide +kernel
theorem kl_4000000000 : (4000000000 : Int64) = Int64.ofInt 4000000000 := by decide +kernel
theorem kl_4294967295 : (4294967295 : Int64) = Int64.ofInt 4294967295 := by decide +kernel
theorem kl_9223372036854775807 : (9223372036854775807 : Int64) = Int64.ofInt 9223372036854775807 := by decide +kernel
theorem l32_m1000000014 : i32 (-1000000014) := ⟨by decide, by decide⟩
theorem l32_m999999999 : i32 (-999999999) := ⟨by decide, by decide⟩
theorem l32_m1000000 : i32 (-1000000) := ⟨by decide, by decide⟩
theorem l32_m500000 : i32 (-500000) := ⟨by decide, by decide⟩
theorem l32_m128 : i32 (-128) := ⟨by decide, by decide⟩
theorem l32_m50 : i32 (-50) := ⟨by decide, by decide⟩
theorem l32_m14 : i32 (-14) := ⟨by decide, by decide⟩
theorem l32_m13 : i32 (-13) := ⟨by decide, by decide⟩
theorem l32_m12 : i32 (-12) := ⟨by decide, by decide⟩
theorem l32_m3 : i32 (-3) := ⟨by decide, by decide⟩
theorem l32_m2 : i32 (-2) := ⟨by decide, by decide⟩
theorem l32_m1 : i32 (-1) := ⟨by decide, by decide⟩
theorem l32_0 : i32 0 := ⟨by decide, by decide⟩
theorem l32_1 : i32 1 := ⟨by decide, by decide⟩
theorem l32_2 : i32 2 := ⟨by decide, by decide⟩
theorem l32_3 : i32 3 := ⟨by decide, by decide⟩
theorem l32_4 : i32 4 := ⟨by decide, by decide⟩
theorem l32_5 : i32 5 := ⟨by decide, by decide⟩
theorem l32_6 : i32 6 := ⟨by decide, by decide⟩
theorem l32_7 : i32 7 := ⟨by decide, by decide⟩
theorem l32_8 : i32 8 := ⟨by decide, by decide⟩
theorem l32_9 : i32 9 := ⟨by decide, by decide⟩
theorem l32_10 : i32 10 := ⟨by decide, by decide⟩
theorem l32_11 : i32 11 := ⟨by decide, by decide⟩
theorem l32_12 : i32 12 := ⟨by decide, by decide⟩
theorem l32_13 : i32 13 := ⟨by decide, by decide⟩
theorem l32_14 : i32 14 := ⟨by decide, by decide⟩
theorem l32_15 : i32 15 := ⟨by decide, by decide⟩
theorem l32_16 : i32 16 := ⟨by decide, by decide⟩
theorem l32_17 : i32 17 := ⟨by decide, by decide⟩
theorem l32_18 : i32 18 := ⟨by decide, by decide⟩
theorem l32_19 : i32 19 := ⟨by decide, by decide⟩
theorem l32_20 : i32 20 := ⟨by decide, by decide⟩
theorem l32_21 : i32 21 := ⟨by decide, by decide⟩
theorem l32_22 : i32 22 := ⟨by decide, by decide⟩
theorem l32_23 : i32 23 := ⟨by decide, by decide⟩
theorem l32_24 : i32 24 := ⟨by decide, by decide⟩
theorem l32_25 : i32 25 := ⟨by decide, by decide⟩
theorem l32_26 : i32 26 := ⟨by decide, by decide⟩
theorem l32_27 : i32 27 := ⟨by decide, by decide⟩
theorem l32_28 : i32 28 := ⟨by decide, by decide⟩
theorem l32_29 : i32 29 := ⟨by decide, by decide⟩
theorem l32_30 : i32 30 := ⟨by decide, by decide⟩
theorem l32_31 : i32 31 := ⟨by decide, by decide⟩
theorem l32_32 : i32 32 := ⟨by decide, by decide⟩
theorem l32_33 : i32 33 := ⟨by decide, by decide⟩
theorem l32_34 : i32 34 := ⟨by decide, by decide⟩
theorem l32_35 : i32 35 := ⟨by decide, by decide⟩
theorem l32_36 : i32 36 := ⟨by decide, by decide⟩
theorem l32_37 : i32 37 := ⟨by decide, by decide⟩
theorem l32_38 : i32 38 := ⟨by decide, by decide⟩
theorem l32_39 : i32 39 := ⟨by decide, by decide⟩
theorem l32_40 : i32 40 := ⟨by decide, by decide⟩
theorem l32_41 : i32 41 := ⟨by decide, by decide⟩
theorem l32_42 : i32 42 := ⟨by decide, by decide⟩
theorem l32_43 : i32 43 := ⟨by decide, by decide⟩
theorem l32_44 : i32 44 := ⟨by decide, by decide⟩
theorem l32_45 : i32 45 := ⟨by decide, by decide⟩
theorem l32_46 : i32 46 := ⟨by decide, by decide⟩
theorem l32_47 : i32 47 := ⟨by decide, by decide⟩
theorem l32_48 : i32 48 := ⟨by decide, by decide⟩
theorem l32_49 : i32 49 := ⟨by decide, by decide⟩
theorem l32_50 : i32 50 := ⟨by decide, by decide⟩
theorem l32_51 : i32 51 := ⟨by decide, by decide⟩
theorem l32_52 : i32 52 := ⟨by decide, by decide⟩
theorem l32_53 : i32 53 := ⟨by decide, by decide⟩
theorem l32_54 : i32 54 := ⟨by decide, by decide⟩
theorem l32_55 : i32 55 := ⟨by decide, by decide⟩
theorem l32_56 : i32 56 := ⟨by decide, by decide⟩
theorem l32_57 : i32 57 := ⟨by decide, by decide⟩
theorem l32_58 : i32 58 := ⟨by decide, by decide⟩
theorem l32_59 : i32 59 := ⟨by decide, by decide⟩
theorem l32_60 : i32 60 := ⟨by decide, by decide⟩
theorem l32_61 : i32 61 := ⟨by decide, by decide⟩
theorem l32_62 : i32 62 := ⟨by decide, by decide⟩
theorem l32_63 : i32 63 := ⟨by decide, by decide⟩
theorem l32_64 : i32 64 := ⟨by decide, by decide⟩
theorem l32_65 : i32 65 := ⟨by decide, by decide⟩
theorem l32_66 : i32 66 := ⟨by decide, by decide⟩
theorem l32_67 : i32 67 := ⟨by decide, by decide⟩
theorem l32_68 : i32 68 := ⟨by decide, by decide⟩
theorem l32_69 : i32 69 := ⟨by decide, by decide⟩
theorem l32_70 : i32 70 := ⟨by decide, by decide⟩
theorem l32_71 : i32 71 := ⟨by decide, by decide⟩
theorem l32_72 : i32 72 := ⟨by decide, by decide⟩
theorem l32_73 : i32 73 := ⟨by decide, by decide⟩
theorem l32_74 : i32 74 := ⟨by decide, by decide⟩
theorem l32_75 : i32 75 := ⟨by decide, by decide⟩
theorem l32_76 : i32 76 := ⟨by decide, by decide⟩
theorem l32_77 : i32 77 := ⟨by decide, by decide⟩
theorem l32_78 : i32 78 := ⟨by decide, by decide⟩
theorem l32_79 : i32 79 := ⟨by decide, by decide⟩
theorem l32_80 : i32 80 := ⟨by decide, by decide⟩
theorem l32_81 : i32 81 := ⟨by decide, by decide⟩
theorem l32_82 : i32 82 := ⟨by decide, by decide⟩
theorem l32_83 : i32 83 := ⟨by decide, by decide⟩
theorem l32_84 : i32 84 := ⟨by decide, by decide⟩
theorem l32_85 : i32 85 := ⟨by decide, by decide⟩
theorem l32_86 : i32 86 := ⟨by decide, by decide⟩
theorem l32_87 : i32 87 := ⟨by decide, by decide⟩
theorem l32_88 : i32 88 := ⟨by decide, by decide⟩
theorem l32_89 : i32 89 := ⟨by decide, by decide⟩
theorem l32_90 : i32 90 := ⟨by decide, by decide⟩
theorem l32_91 : i32 91 := ⟨by decide, by decide⟩
theorem l32_92 : i32 92 := ⟨by decide, by decide⟩
theorem l32_93 : i32 93 := ⟨by decide, by decide⟩
theorem l32_94 : i32 94 := ⟨by decide, by decide⟩
theorem l32_95 : i32 95 := ⟨by decide, by decide⟩
theorem l32_96 : i32 96 := ⟨by decide, by decide⟩
theorem l32_97 : i32 97 := ⟨by decide, by decide⟩
theorem l32_98 : i32 98 := ⟨by decide, by decide⟩
theorem l32_99 : i32 99 := ⟨by decide, by decide⟩
theorem l32_100 : i32 100 := ⟨by decide, by decide⟩
theorem l32_101 : i32 101 := ⟨by decide, by decide⟩
theorem l32_102 : i32 102 := ⟨by decide, by decide⟩
theorem l32_103 : i32 103 := ⟨by decide, by decide⟩
theorem l32_104 : i32 104 := ⟨by decide, by decide⟩
theorem l32_105 : i32 105 := ⟨by decide, by decide⟩
theorem l32_106 : i32 106 := ⟨by decide, by decide⟩
theorem l32_107 : i32 107 := ⟨by decide, by decide⟩
theorem l32_108 : i32 108 := ⟨by decide, by decide⟩
theorem l32_109 : i32 109 := ⟨by decide, by decide⟩
theorem l32_110 : i32 110 := ⟨by decide, by decide⟩
theorem l32_111 : i32 111 := ⟨by decide, by decide⟩
theorem l32_112 : i32 112 := ⟨by decide, by decide⟩
theorem l32_113 : i32 113 := ⟨by decide, by decide⟩
theorem l32_114 : i32 114 := ⟨by decide, by decide⟩
theorem l32_115 : i32 115 := ⟨by decide, by decide⟩
theorem l32_116 : i32 116 := ⟨by decide, by decide⟩
theorem l32_117 : i32 117 := ⟨by decide, by decide⟩
theorem l32_118 : i32 118 := ⟨by decide, by decide⟩
theorem l32_119 : i32 119 := ⟨by decide, by decide⟩
theorem l32_120 : i32 120 := ⟨by decide, by decide⟩
theorem l32_121 : i32 121 := ⟨by decide, by decide⟩
theorem l32_122 : i32 122 := ⟨by decide, by decide⟩
theorem l32_123 : i32 123 := ⟨by decide, by decide⟩
theorem l32_124 : i32 124 := ⟨by decide, by decide⟩
theorem l32_125 : i32 125 := ⟨by decide, by decide⟩
theorem l32_126 : i32 126 := ⟨by decide, by decide⟩
theorem l32_127 : i32 127 := ⟨by decide, by decide⟩
theorem l32_128 : i32 128 := ⟨by decide, by decide⟩
theorem l32_129 : i32 129 := ⟨by decide, by decide⟩
theorem l32_130 : i32 130 := ⟨by decide, by decide⟩
theorem l32_131 : i32 131 := ⟨by decide, by decide⟩
theorem l32_132 : i32 132 := ⟨by decide, by decide⟩
theorem l32_133 : i32 133 := ⟨by decide, by decide⟩
theorem l32_134 : i32 134 := ⟨by decide, by decide⟩
theorem l32_135 : i32 135 := ⟨by decide, by decide⟩
theorem l32_136 : i32 136 := ⟨by decide, by decide⟩
theorem l32_137 : i32 137 := ⟨by decide, by decide⟩
theorem l32_138 : i32 138 := ⟨by decide, by decide⟩
theorem l32_139 : i32 139 := ⟨by decide, by decide⟩
theorem l32_140 : i32 140 := ⟨by decide, by decide⟩
theorem l32_141 : i32 141 := ⟨by decide, by decide⟩
theorem l32_142 : i32 142 := ⟨by decide, by decide⟩
theorem l32_143 : i32 143 := ⟨by decide, by decide⟩
theorem l32_144 : i32 144 := ⟨by decide, by decide⟩
theorem l32_145 : i32 145 := ⟨by decide, by decide⟩
theorem l32_146 : i32 146 := ⟨by decide, by decide⟩
theorem l32_147 : i32 147 := ⟨by decide, by decide⟩
theorem l32_148 : i32 148 := ⟨by decide, by decide⟩
theorem l32_149 : i32 149 := ⟨by decide, by decide⟩
theorem l32_150 : i32 150 := ⟨by decide, by decide⟩
theorem l32_151 : i32 151 := ⟨by decide, by decide⟩
theorem l32_152 : i32 152 := ⟨by decide, by decide⟩
theorem l32_153 : i32 153 := ⟨by decide, by decide⟩
theorem l32_154 : i32 154 := ⟨by decide, by decide⟩
theorem l32_155 : i32 155 := ⟨by decide, by decide⟩
theorem l32_156 : i32 156 := ⟨by decide, by decide⟩
theorem l32_157 : i32 157 := ⟨by decide, by decide⟩
theorem l32_158 : i32 158 := ⟨by decide, by decide⟩
theorem l32_159 : i32 159 := ⟨by decide, by decide⟩
theorem l32_160 : i32 160 := ⟨by decide, by decide⟩
theorem l32_161 : i32 161 := ⟨by decide, by decide⟩
theorem l32_162 : i32 162 := ⟨by decide, by decide⟩
theorem l32_163 : i32 163 := ⟨by decide, by decide⟩
theorem l32_164 : i32 164 := ⟨by decide, by decide⟩
theorem l32_165 : i32 165 := ⟨by decide, by decide⟩
theorem l32_166 : i32 166 := ⟨by decide, by decide⟩
theorem l32_167 : i32 167 := ⟨by decide, by decide⟩
theorem l32_168 : i32 168 := ⟨by decide, by decide⟩
theorem l32_169 : i32 169 := ⟨by decide, by decide⟩
theorem l32_170 : i32 170 := ⟨by decide, by decide⟩
theorem l32_171 : i32 171 := ⟨by decide, by decide⟩
theorem l32_172 : i32 172 := ⟨by decide, by decide⟩
theorem l32_173 : i32 173 := ⟨by decide, by decide⟩
theorem l32_174 : i32 174 := ⟨by decide, by decide⟩
theorem l32_175 : i32 175 := ⟨by decide, by decide⟩
theorem l32_176 : i32 176 := ⟨by decide, by decide⟩
theorem l32_177 : i32 177 := ⟨by decide, by decide⟩
theorem l32_178 : i32 178 := ⟨by decide, by decide⟩
theorem l32_179 : i32 179 := ⟨by decide, by decide⟩
theorem l32_180 : i32 180 := ⟨by decide, by decide⟩
theorem l32_181 : i32 181 := ⟨by decide, by decide⟩
theorem l32_182 : i32 182 := ⟨by decide, by decide⟩
theorem l32_183 : i32 183 := ⟨by decide, by decide⟩
theorem l32_184 : i32 184 := ⟨by decide, by decide⟩
theorem l32_185 : i32 185 := ⟨by decide, by decide⟩
theorem l32_186 : i32 186 := ⟨by decide, by decide⟩
theorem l32_187 : i32 187 := ⟨by decide, by decide⟩
theorem l32_188 : i32 188 := ⟨by decide, by decide⟩
theorem l32_189 : i32 189 := ⟨by decide, by decide⟩
theorem l32_190 : i32 190 := ⟨by decide, by decide⟩
theorem l32_191 : i32 191 := ⟨by decide, by decide⟩
theorem l32_192 : i32 192 := ⟨by decide, by decide⟩
theorem l32_193 : i32 193 := ⟨by decide, by decide⟩
theorem l32_194 : i32 194 := ⟨by decide, by decide⟩
theorem l32_195 : i32 195 := ⟨by decide, by decide⟩
theorem l32_196 : i32 196 := ⟨by decide, by decide⟩
theorem l32_197 : i32 197 := ⟨by decide, by decide⟩
theorem l32_198 : i32 198 := ⟨by decide, by decide⟩
theorem l32_199 : i32 199 := ⟨by decide, by decide⟩
theorem l32_200 : i32 200 := ⟨by decide, by decide⟩
theorem l32_201 : i32 201 := ⟨by decide, by decide⟩
theorem l32_202 : i32 202 := ⟨by decide, by decide⟩
theorem l32_203 : i32 203 := ⟨by decide, by decide⟩
theorem l32_204 : i32 204 := ⟨by decide, by decide⟩
theorem l32_205 : i32 205 := ⟨by decide, by decide⟩
theorem l32_206 : i32 206 := ⟨by decide, by decide⟩
theorem l32_207 : i32 207 := ⟨by decide, by decide⟩
theorem l32_208 : i32 208 := ⟨by decide, by decide⟩
theorem l32_209 : i32 209 := ⟨by decide, by decide⟩
theorem l32_210 : i32 210 := ⟨by decide, by decide⟩
theorem l32_211 : i32 211 := ⟨by decide, by decide⟩
theorem l32_212 : i32 212 := ⟨by decide, by decide⟩
theorem l32_213 : i32 213 := ⟨by decide, by decide⟩
theorem l32_214 : i32 214 := ⟨by decide, by decide⟩
theorem l32_215 : i32 215 := ⟨by decide, by decide⟩
theorem l32_216 : i32 216 := ⟨by decide, by decide⟩
theorem l32_217 : i32 217 := ⟨by decide, by decide⟩
theorem l32_218 : i32 218 := ⟨by decide, by decide⟩
theorem l32_219 : i32 219 := ⟨by decide, by decide⟩
theorem l32_220 : i32 220 := ⟨by decide, by decide⟩
theorem l32_221 : i32 221 := ⟨by decide, by decide⟩
theorem l32_222 : i32 222 := ⟨by decide, by decide⟩
theorem l32_223 : i32 223 := ⟨by decide, by decide⟩
theorem l32_224 : i32 224 := ⟨by decide, by decide⟩
theorem l32_225 : i32 225 := ⟨by decide, by decide⟩
theorem l32_226 : i32 226 := ⟨by decide, by decide⟩
theorem l32_227 : i32 227 := ⟨by decide, by decide⟩
theorem l32_228 : i32 228 := ⟨by decide, by decide⟩
theorem l32_229 : i32 229 := ⟨by decide, by decide⟩
theorem l32_230 : i32 230 := ⟨by decide, by decide⟩
theorem l32_231 : i32 231 := ⟨by decide, by decide⟩
theorem l32_232 : i32 232 := ⟨by decide, by decide⟩
theorem l32_233 : i32 233 := ⟨by decide, by decide⟩
theorem l32_234 : i32 234 := ⟨by decide, by decide⟩
theorem l32_235 : i32 235 := ⟨by decide, by decide⟩
theorem l32_236 : i32 236 := ⟨by decide, by decide⟩
theorem l32_237 : i32 237 := ⟨by decide, by decide⟩
theorem l32_238 : i32 238 := ⟨by decide, by decide⟩
theorem l32_239 : i32 239 := ⟨by decide, by decide⟩
theorem l32_240 : i32 240 := ⟨by decide, by decide⟩
theorem l32_241 : i32 241 := ⟨by decide, by decide⟩
theorem l32_242 : i32 242 := ⟨by decide, by decide⟩
theorem l32_243 : i32 243 := ⟨by decide, by decide⟩
theorem l32_244 : i32 244 := ⟨by decide, by decide⟩
theorem l32_245 : i32 245 := ⟨by decide, by decide⟩
theorem l32_246 : i32 246 := ⟨by decide, by decide⟩
theorem l32_247 : i32 247 := ⟨by decide, by decide⟩
theorem l32_248 : i32 248 := ⟨by decide, by decide⟩
theorem l32_249 : i32 249 := ⟨by decide, by decide⟩
theorem l32_250 : i32 250 := ⟨by decide, by decide⟩
theorem l32_251 : i32 251 := ⟨by decide, by decide⟩
theorem l32_252 : i32 252 := ⟨by decide, by decide⟩
theorem l32_253 : i32 253 := ⟨by decide, by decide⟩
theorem l32_254 : i32 254 := ⟨by decide, by decide⟩
theorem l32_255 : i32 255 := ⟨by decide, by decide⟩
theorem l32_256 : i32 256 := ⟨by decide, by decide⟩
theorem l32_257 : i32 257 := ⟨by decide, by decide⟩
theorem l32_258 : i32 258 := ⟨by decide, by decide⟩
theorem l32_259 : i32 259 := ⟨by decide, by decide⟩
theorem l32_260 : i32 260 := ⟨by decide, by decide⟩
theorem l32_261 : i32 261 := ⟨by decide, by decide⟩
theorem l32_262 : i32 262 := ⟨by decide, by decide⟩
theorem l32_263 : i32 263 := ⟨by decide, by decide⟩
theorem l32_264 : i32 264 := ⟨by decide, by decide⟩
theorem l32_265 : i32 265 := ⟨by decide, by decide⟩
theorem l32_266 : i32 266 := ⟨by decide, by decide⟩
theorem l32_267 : i32 267 := ⟨by decide, by decide⟩
theorem l32_268 : i32 268 := ⟨by decide, by decide⟩
theorem l32_269 : i32 269 := ⟨by decide, by decide⟩
theorem l32_270 : i32 270 := ⟨by decide, by decide⟩
theorem l32_271 : i32 271 := ⟨by decide, by decide⟩
theorem l32_272 : i32 272 := ⟨by decide, by decide⟩
theorem l32_273 : i32 273 := ⟨by decide, by decide⟩
theorem l32_274 : i32 274 := ⟨by decide, by decide⟩
theorem l32_275 : i32 275 := ⟨by decide, by decide⟩
theorem l32_276 : i32 276 := ⟨by decide, by decide⟩
theorem l32_277 : i32 277 := ⟨by decide, by decide⟩
theorem l32_278 : i32 278 := ⟨by decide, by decide⟩
theorem l32_279 : i32 279 := ⟨by decide, by decide⟩
theorem l32_280 : i32 280 := ⟨by decide, by decide⟩
theorem l32_281 : i32 281 := ⟨by decide, by decide⟩
theorem l32_282 : i32 282 := ⟨by decide, by decide⟩
theorem l32_283 : i32 283 := ⟨by decide, by decide⟩
theorem l32_284 : i32 284 := ⟨by decide, by decide⟩
theorem l32_285 : i32 285 := ⟨by decide, by decide⟩
theorem l32_286 : i32 286 := ⟨by decide, by decide⟩
theorem l32_287 : i32 287 := ⟨by decide, by decide⟩
theorem l32_288 : i32 288 := ⟨by decide, by decide⟩
theorem l32_289 : i32 289 := ⟨by decide, by decide⟩
theorem l32_290 : i32 290 := ⟨by decide, by decide⟩
theorem l32_291 : i32 291 := ⟨by decide, by decide⟩
theorem l32_292 : i32 292 := ⟨by decide, by decide⟩
theorem l32_293 : i32 293 := ⟨by decide, by decide⟩
theorem l32_294 : i32 294 := ⟨by decide, by decide⟩
theorem l32_295 : i32 295 := ⟨by decide, by decide⟩
theorem l32_296 : i32 296 := ⟨by decide, by decide⟩
theorem l32_297 : i32 297 := ⟨by decide, by decide⟩
theorem l32_298 : i32 298 := ⟨by decide, by decide⟩
theorem l32_299 : i32 299 := ⟨by decide, by decide⟩
theorem l32_300 : i32 300 := ⟨by decide, by decide⟩
theorem l32_400 : i32 400 := ⟨by decide, by decide⟩
theorem l32_512 : i32 512 := ⟨by decide, by decide⟩
theorem l32_600 : i32 600 := ⟨by decide, by decide⟩
theorem l32_1000 : i32 1000 := ⟨by decide, by decide⟩
theorem l32_1024 : i32 1024 := ⟨by decide, by decide⟩
theorem l32_2000 : i32 2000 := ⟨by decide, by decide⟩
theorem l32_2002 : i32 2002 := ⟨by decide, by decide⟩
theorem l32_2500 : i32 2500 := ⟨by decide, by decide⟩
theorem l32_4000 : i32 4000 := ⟨by decide, by decide⟩
theorem l32_6000 : i32 6000 := ⟨by decide, by decide⟩
theorem l32_6002 : i32 6002 := ⟨by decide, by decide⟩
theorem l32_9000 : i32 9000 := ⟨by decide, by decide⟩
theorem l32_9001 : i32 9001 := ⟨by decide, by decide⟩
theorem l32_9002 : i32 9002 := ⟨by decide, by decide⟩
theorem l32_10000 : i32 10000 := ⟨by decide, by decide⟩
theorem l32_16000 : i32 16000 := ⟨by decide, by decide⟩
theorem l32_16383 : i32 16383 := ⟨by decide, by decide⟩
theorem l32_16384 : i32 16384 := ⟨by decide, by decide⟩
theorem l32_18000 : i32 18000 := ⟨by decide, by decide⟩
theorem l32_18001 : i32 18001 := ⟨by decide, by decide⟩
theorem l32_20000 : i32 20000 := ⟨by decide, by decide⟩
theorem l32_40000 : i32 40000 := ⟨by decide, by decide⟩
theorem l32_60000 : i32 60000 := ⟨by decide, by decide⟩
theorem l32_65536 : i32 65536 := ⟨by decide, by decide⟩
theorem l32_144032 : i32 144032 := ⟨by decide, by decide⟩
theorem l32_500000 : i32 500000 := ⟨by decide, by decide⟩
theorem l32_1000000 : i32 1000000 := ⟨by decide, by decide⟩
theorem l32_999999999 : i32 999999999 := ⟨by decide, by decide⟩
theorem l32_1073741823 : i32 1073741823 := ⟨by decide, by decide⟩
theorem l32_2147483639 : i32 2147483639 := ⟨by decide, by decide⟩
theorem l32_2147483647 : i32 2147483647 := ⟨by decide, by decide⟩
theorem l64_m7046029254386353131 : i64 (-7046029254386353131) := ⟨by decide, by decide⟩
theorem l64_m14 : i64 (-14) := ⟨by decide, by decide⟩
theorem l64_m13 : i64 (-13) := ⟨by decide, by decide⟩
theorem l64_m3 : i64 (-3) := ⟨by decide, by decide⟩
theorem l64_m2 : i64 (-2) := ⟨by decide, by decide⟩
theorem l64_m1 : i64 (-1) := ⟨by decide, by decide⟩
theorem l64_0 : i64 0 := ⟨by decide, by decide⟩
theorem l64_1 : i64 1 := ⟨by decide, by decide⟩
theorem l64_2 : i64 2 := ⟨by decide, by decide⟩
theorem l64_3 : i64 3 := ⟨by decide, by decide⟩
theorem l64_4 : i64 4 := ⟨by decide, by decide⟩
theorem l64_5 : i64 5 := ⟨by decide, by decide⟩
theorem l64_6 : i64 6 := ⟨by decide, by decide⟩
theorem l64_7 : i64 7 := ⟨by decide, by decide⟩
theorem l64_8 : i64 8 := ⟨by decide, by decide⟩
theorem l64_9 : i64 9 := ⟨by decide, by decide⟩
theorem l64_10 : i64 10 := ⟨by decide, by decide⟩
theorem l64_11 : i64 11 := ⟨by decide, by decide⟩
theorem l64_12 : i64 12 := ⟨by decide, by decide⟩
theorem l64_13 : i64 13 := ⟨by decide, by decide⟩
theorem l64_14 : i64 14 := ⟨by decide, by decide⟩
theorem l64_15 : i64 15 := ⟨by decide, by decide⟩
theorem l64_16 : i64 16 := ⟨by decide, by decide⟩
theorem l64_17 : i64 17 := ⟨by decide, by decide⟩
theorem l64_18 : i64 18 := ⟨by decide, by decide⟩
theorem l64_19 : i64 19 := ⟨by decide, by decide⟩
theorem l64_20 : i64 20 := ⟨by decide, by decide⟩
theorem l64_21 : i64 21 := ⟨by decide, by decide⟩
theorem l64_22 : i64 22 := ⟨by decide, by decide⟩
theorem l64_23 : i64 23 := ⟨by decide, by decide⟩
theorem l64_24 : i64 24 := ⟨by decide, by decide⟩
theorem l64_25 : i64 25 := ⟨by decide, by decide⟩
theorem l64_26 : i64 26 := ⟨by decide, by decide⟩
theorem l64_27 : i64 27 := ⟨by decide, by decide⟩
theorem l64_28 : i64 28 := ⟨by decide, by decide⟩
theorem l64_29 : i64 29 := ⟨by decide, by decide⟩
theorem l64_30 : i64 30 := ⟨by decide, by decide⟩
theorem l64_31 : i64 31 := ⟨by decide, by decide⟩
theorem l64_32 : i64 32 := ⟨by decide, by decide⟩
theorem l64_33 : i64 33 := ⟨by decide, by decide⟩
theorem l64_34 : i64 34 := ⟨by decide, by decide⟩
theorem l64_35 : i64 35 := ⟨by decide, by decide⟩
theorem l64_36 : i64 36 := ⟨by decide, by decide⟩
theorem l64_37 : i64 37 := ⟨by decide, by decide⟩
theorem l64_38 : i64 38 := ⟨by decide, by decide⟩
theorem l64_39 : i64 39 := ⟨by decide, by decide⟩
theorem l64_40 : i64 40 := ⟨by decide, by decide⟩
theorem l64_41 : i64 41 := ⟨by decide, by decide⟩
theorem l64_42 : i64 42 := ⟨by decide, by decide⟩
theorem l64_43 : i64 43 := ⟨by decide, by decide⟩
theorem l64_44 : i64 44 := ⟨by decide, by decide⟩
theorem l64_45 : i64 45 := ⟨by decide, by decide⟩
theorem l64_46 : i64 46 := ⟨by decide, by decide⟩
theorem l64_47 : i64 47 := ⟨by decide, by decide⟩
theorem l64_48 : i64 48 := ⟨by decide, by decide⟩
theorem l64_49 : i64 49 := ⟨by decide, by decide⟩
theorem l64_50 : i64 50 := ⟨by decide, by decide⟩
theorem l64_51 : i64 51 := ⟨by decide, by decide⟩
theorem l64_52 : i64 52 := ⟨by decide, by decide⟩
theorem l64_53 : i64 53 := ⟨by decide, by decide⟩
theorem l64_54 : i64 54 := ⟨by decide, by decide⟩
theorem l64_55 : i64 55 := ⟨by decide, by decide⟩
theorem l64_56 : i64 56 := ⟨by decide, by decide⟩
theorem l64_57 : i64 57 := ⟨by decide, by decide⟩
theorem l64_58 : i64 58 := ⟨by decide, by decide⟩
theorem l64_59 : i64 59 := ⟨by decide, by decide⟩
theorem l64_60 : i64 60 := ⟨by decide, by decide⟩
theorem l64_61 : i64 61 := ⟨by decide, by decide⟩
theorem l64_62 : i64 62 := ⟨by decide, by decide⟩
theorem l64_63 : i64 63 := ⟨by decide, by decide⟩
theorem l64_64 : i64 64 := ⟨by decide, by decide⟩
theorem l64_65 : i64 65 := ⟨by decide, by decide⟩
theorem l64_66 : i64 66 := ⟨by decide, by decide⟩
theorem l64_67 : i64 67 := ⟨by decide, by decide⟩
theorem l64_68 : i64 68 := ⟨by decide, by decide⟩
theorem l64_69 : i64 69 := ⟨by decide, by decide⟩
theorem l64_511 : i64 511 := ⟨by decide, by decide⟩
theorem l64_1000 : i64 1000 := ⟨by decide, by decide⟩
theorem l64_8191 : i64 8191 := ⟨by decide, by decide⟩
theorem l64_32767 : i64 32767 := ⟨by decide, by decide⟩
theorem l64_1000000 : i64 1000000 := ⟨by decide, by decide⟩
theorem l64_1048575 : i64 1048575 := ⟨by decide, by decide⟩
theorem l64_2097151 : i64 2097151 := ⟨by decide, by decide⟩
theorem l64_2097152 : i64 2097152 := ⟨by decide, by decide⟩
theorem l64_1073741824 : i64 1073741824 := ⟨by decide, by decide⟩
theorem l64_2147483648 : i64 2147483648 := ⟨by decide, by decide⟩
theorem l64_3000000000 : i64 3000000000 := ⟨by decide, by decide⟩
theorem l64_4000000000 : i64 4000000000 := ⟨by decide, by decide⟩
theorem l64_4294967295 : i64 4294967295 := ⟨by decide, by decide⟩
theorem l64_9223372036854775807 : i64 9223372036854775807 := ⟨by decide, by decide⟩
