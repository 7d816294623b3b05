/-! a decoder over lists of bytes: printed by gen_dec.py out of the opcodes' lemmas -/
set_option maxRecDepth 100000
theorem dkP {code : ByteArray} {pc : Nat} {l r : List UInt8} (h : code.data.toList.drop pc = l ++ r) : DkAt code pc l := by
  intro j b e
  have h1 : j < l.length := (List.getElem?_eq_some_iff.mp e).1
  have h2 : (code.data.toList.drop pc)[j]? = some b := by rw [h, List.getElem?_append_left h1]; exact e
  rw [List.getElem?_drop] at h2
  exact h2
theorem dkQ {code : ByteArray} {pc : Nat} {l r : List UInt8} (h : code.data.toList.drop pc = l ++ r) (n : Nat) (hn : l.length = n) : code.data.toList.drop (pc + n) = r := dk_seg h n hn rfl
def decN (n : Nat) (bs : List UInt8) : Option (Instr × Nat × List UInt8) :=
  match n with
  | 1 => some (.aconst_null, 1, bs)
  | 2 => some (.iconst (-1), 1, bs)
  | 3 => some (.iconst 0, 1, bs)
  | 4 => some (.iconst 1, 1, bs)
  | 5 => some (.iconst 2, 1, bs)
  | 6 => some (.iconst 3, 1, bs)
  | 7 => some (.iconst 4, 1, bs)
  | 8 => some (.iconst 5, 1, bs)
  | 16 => match bs with
    | a :: r => some (.bipush (Reader.signed 8 a.toNat), 2, r)
    | _ => none
  | 17 => match bs with
    | a :: b :: r => some (.sipush (Reader.signed 16 (a.toNat * 256 + b.toNat)), 3, r)
    | _ => none
  | 18 => match bs with
    | a :: r => some (.ldc a.toNat, 2, r)
    | _ => none
  | 19 => match bs with
    | a :: b :: r => some (.ldc_w (a.toNat * 256 + b.toNat), 3, r)
    | _ => none
  | 20 => match bs with
    | a :: b :: r => some (.ldc2_w (a.toNat * 256 + b.toNat), 3, r)
    | _ => none
  | 21 => match bs with
    | a :: r => some (.iload a.toNat, 2, r)
    | _ => none
  | 25 => match bs with
    | a :: r => some (.aload a.toNat, 2, r)
    | _ => none
  | 26 => some (.iload_n 0, 1, bs)
  | 27 => some (.iload_n 1, 1, bs)
  | 28 => some (.iload_n 2, 1, bs)
  | 29 => some (.iload_n 3, 1, bs)
  | 42 => some (.aload_n 0, 1, bs)
  | 43 => some (.aload_n 1, 1, bs)
  | 44 => some (.aload_n 2, 1, bs)
  | 45 => some (.aload_n 3, 1, bs)
  | 46 => some (.iaload, 1, bs)
  | 47 => some (.laload, 1, bs)
  | 50 => some (.aaload, 1, bs)
  | 51 => some (.baload, 1, bs)
  | 52 => some (.caload, 1, bs)
  | 53 => some (.saload, 1, bs)
  | 54 => match bs with
    | a :: r => some (.istore a.toNat, 2, r)
    | _ => none
  | 58 => match bs with
    | a :: r => some (.astore a.toNat, 2, r)
    | _ => none
  | 59 => some (.istore_n 0, 1, bs)
  | 60 => some (.istore_n 1, 1, bs)
  | 61 => some (.istore_n 2, 1, bs)
  | 62 => some (.istore_n 3, 1, bs)
  | 76 => some (.astore_n 1, 1, bs)
  | 77 => some (.astore_n 2, 1, bs)
  | 78 => some (.astore_n 3, 1, bs)
  | 79 => some (.iastore, 1, bs)
  | 80 => some (.lastore, 1, bs)
  | 83 => some (.aastore, 1, bs)
  | 84 => some (.bastore, 1, bs)
  | 87 => some (.pop, 1, bs)
  | 89 => some (.dup, 1, bs)
  | 90 => some (.dup_x1, 1, bs)
  | 92 => some (.dup2, 1, bs)
  | 96 => some (.iadd, 1, bs)
  | 97 => some (.ladd, 1, bs)
  | 100 => some (.isub, 1, bs)
  | 104 => some (.imul, 1, bs)
  | 105 => some (.lmul, 1, bs)
  | 108 => some (.idiv, 1, bs)
  | 112 => some (.irem, 1, bs)
  | 113 => some (.lrem, 1, bs)
  | 120 => some (.ishl, 1, bs)
  | 122 => some (.ishr, 1, bs)
  | 124 => some (.iushr, 1, bs)
  | 126 => some (.iand, 1, bs)
  | 128 => some (.ior, 1, bs)
  | 132 => match bs with
    | a :: b :: r => some (.iinc a.toNat (Reader.signed 8 b.toNat), 3, r)
    | _ => none
  | 133 => some (.i2l, 1, bs)
  | 136 => some (.l2i, 1, bs)
  | 145 => some (.i2b, 1, bs)
  | 146 => some (.i2c, 1, bs)
  | 148 => some (.lcmp, 1, bs)
  | 153 => match bs with
    | a :: b :: r => some (.ifCond .eq (Reader.signed 16 (a.toNat * 256 + b.toNat)), 3, r)
    | _ => none
  | 154 => match bs with
    | a :: b :: r => some (.ifCond .ne (Reader.signed 16 (a.toNat * 256 + b.toNat)), 3, r)
    | _ => none
  | 155 => match bs with
    | a :: b :: r => some (.ifCond .lt (Reader.signed 16 (a.toNat * 256 + b.toNat)), 3, r)
    | _ => none
  | 156 => match bs with
    | a :: b :: r => some (.ifCond .ge (Reader.signed 16 (a.toNat * 256 + b.toNat)), 3, r)
    | _ => none
  | 157 => match bs with
    | a :: b :: r => some (.ifCond .gt (Reader.signed 16 (a.toNat * 256 + b.toNat)), 3, r)
    | _ => none
  | 158 => match bs with
    | a :: b :: r => some (.ifCond .le (Reader.signed 16 (a.toNat * 256 + b.toNat)), 3, r)
    | _ => none
  | 159 => match bs with
    | a :: b :: r => some (.if_icmp .eq (Reader.signed 16 (a.toNat * 256 + b.toNat)), 3, r)
    | _ => none
  | 160 => match bs with
    | a :: b :: r => some (.if_icmp .ne (Reader.signed 16 (a.toNat * 256 + b.toNat)), 3, r)
    | _ => none
  | 161 => match bs with
    | a :: b :: r => some (.if_icmp .lt (Reader.signed 16 (a.toNat * 256 + b.toNat)), 3, r)
    | _ => none
  | 162 => match bs with
    | a :: b :: r => some (.if_icmp .ge (Reader.signed 16 (a.toNat * 256 + b.toNat)), 3, r)
    | _ => none
  | 163 => match bs with
    | a :: b :: r => some (.if_icmp .gt (Reader.signed 16 (a.toNat * 256 + b.toNat)), 3, r)
    | _ => none
  | 164 => match bs with
    | a :: b :: r => some (.if_icmp .le (Reader.signed 16 (a.toNat * 256 + b.toNat)), 3, r)
    | _ => none
  | 165 => match bs with
    | a :: b :: r => some (.if_acmp .eq (Reader.signed 16 (a.toNat * 256 + b.toNat)), 3, r)
    | _ => none
  | 166 => match bs with
    | a :: b :: r => some (.if_acmp .ne (Reader.signed 16 (a.toNat * 256 + b.toNat)), 3, r)
    | _ => none
  | 167 => match bs with
    | a :: b :: r => some (.goto (Reader.signed 16 (a.toNat * 256 + b.toNat)), 3, r)
    | _ => none
  | 172 => some (.ireturn, 1, bs)
  | 176 => some (.areturn, 1, bs)
  | 177 => some (.return_, 1, bs)
  | 178 => match bs with
    | a :: b :: r => some (.getstatic (a.toNat * 256 + b.toNat), 3, r)
    | _ => none
  | 180 => match bs with
    | a :: b :: r => some (.getfield (a.toNat * 256 + b.toNat), 3, r)
    | _ => none
  | 181 => match bs with
    | a :: b :: r => some (.putfield (a.toNat * 256 + b.toNat), 3, r)
    | _ => none
  | 182 => match bs with
    | a :: b :: r => some (.invokevirtual (a.toNat * 256 + b.toNat), 3, r)
    | _ => none
  | 183 => match bs with
    | a :: b :: r => some (.invokespecial (a.toNat * 256 + b.toNat), 3, r)
    | _ => none
  | 184 => match bs with
    | a :: b :: r => some (.invokestatic (a.toNat * 256 + b.toNat), 3, r)
    | _ => none
  | 187 => match bs with
    | a :: b :: r => some (.new (a.toNat * 256 + b.toNat), 3, r)
    | _ => none
  | 188 => match bs with
    | c :: r => match c.toNat with
      | 4 => some (.newarray .boolean, 2, r)
      | 8 => some (.newarray .byte, 2, r)
      | 10 => some (.newarray .int, 2, r)
      | 11 => some (.newarray .long, 2, r)
      | _ => none
    | _ => none
  | 189 => match bs with
    | a :: b :: r => some (.anewarray (a.toNat * 256 + b.toNat), 3, r)
    | _ => none
  | 190 => some (.arraylength, 1, bs)
  | 191 => some (.athrow, 1, bs)
  | 192 => match bs with
    | a :: b :: r => some (.checkcast (a.toNat * 256 + b.toNat), 3, r)
    | _ => none
  | 193 => match bs with
    | a :: b :: r => some (.instanceof (a.toNat * 256 + b.toNat), 3, r)
    | _ => none
  | 198 => match bs with
    | a :: b :: r => some (.ifnull (Reader.signed 16 (a.toNat * 256 + b.toNat)), 3, r)
    | _ => none
  | 199 => match bs with
    | a :: b :: r => some (.ifnonnull (Reader.signed 16 (a.toNat * 256 + b.toNat)), 3, r)
    | _ => none
  | _ => none
def decS (bs : List UInt8) : Option (Instr × Nat × List UInt8) :=
  match bs with
  | c :: r => decN c.toNat r
  | [] => none
set_option maxHeartbeats 4000000 in
theorem decN_ok {code : ByteArray} {pc n : Nat} {i : Instr} {c : UInt8} {bs r : List UInt8} (h : code.data.toList.drop pc = c :: bs) (hd : decN c.toNat bs = some (i, n, r)) : decode code pc = .ok (i, n) ∧ code.data.toList.drop (pc + n) = r := by
  unfold decN at hd
  split at hd
  next hc =>
    obtain rfl : c = 1 := UInt8.toNat_inj.mp hc
    cases hd
    exact ⟨dk_1 (dkP (l := [1]) h), dkQ (l := [1]) h 1 rfl⟩
  next hc =>
    obtain rfl : c = 2 := UInt8.toNat_inj.mp hc
    cases hd
    exact ⟨dk_2 (dkP (l := [2]) h), dkQ (l := [2]) h 1 rfl⟩
  next hc =>
    obtain rfl : c = 3 := UInt8.toNat_inj.mp hc
    cases hd
    exact ⟨dk_3 (dkP (l := [3]) h), dkQ (l := [3]) h 1 rfl⟩
  next hc =>
    obtain rfl : c = 4 := UInt8.toNat_inj.mp hc
    cases hd
    exact ⟨dk_4 (dkP (l := [4]) h), dkQ (l := [4]) h 1 rfl⟩
  next hc =>
    obtain rfl : c = 5 := UInt8.toNat_inj.mp hc
    cases hd
    exact ⟨dk_5 (dkP (l := [5]) h), dkQ (l := [5]) h 1 rfl⟩
  next hc =>
    obtain rfl : c = 6 := UInt8.toNat_inj.mp hc
    cases hd
    exact ⟨dk_6 (dkP (l := [6]) h), dkQ (l := [6]) h 1 rfl⟩
  next hc =>
    obtain rfl : c = 7 := UInt8.toNat_inj.mp hc
    cases hd
    exact ⟨dk_7 (dkP (l := [7]) h), dkQ (l := [7]) h 1 rfl⟩
  next hc =>
    obtain rfl : c = 8 := UInt8.toNat_inj.mp hc
    cases hd
    exact ⟨dk_8 (dkP (l := [8]) h), dkQ (l := [8]) h 1 rfl⟩
  next hc =>
    obtain rfl : c = 16 := UInt8.toNat_inj.mp hc
    split at hd
    next a r2 =>
      cases hd
      exact ⟨dk_16 a (dkP (l := [16, a]) h), dkQ (l := [16, a]) h 2 rfl⟩
    next => cases hd
  next hc =>
    obtain rfl : c = 17 := UInt8.toNat_inj.mp hc
    split at hd
    next a b r2 =>
      cases hd
      exact ⟨dk_17 a b (dkP (l := [17, a, b]) h), dkQ (l := [17, a, b]) h 3 rfl⟩
    next => cases hd
  next hc =>
    obtain rfl : c = 18 := UInt8.toNat_inj.mp hc
    split at hd
    next a r2 =>
      cases hd
      exact ⟨dk_18 a (dkP (l := [18, a]) h), dkQ (l := [18, a]) h 2 rfl⟩
    next => cases hd
  next hc =>
    obtain rfl : c = 19 := UInt8.toNat_inj.mp hc
    split at hd
    next a b r2 =>
      cases hd
      exact ⟨dk_19 a b (dkP (l := [19, a, b]) h), dkQ (l := [19, a, b]) h 3 rfl⟩
    next => cases hd
  next hc =>
    obtain rfl : c = 20 := UInt8.toNat_inj.mp hc
    split at hd
    next a b r2 =>
      cases hd
      exact ⟨dk_20 a b (dkP (l := [20, a, b]) h), dkQ (l := [20, a, b]) h 3 rfl⟩
    next => cases hd
  next hc =>
    obtain rfl : c = 21 := UInt8.toNat_inj.mp hc
    split at hd
    next a r2 =>
      cases hd
      exact ⟨dk_21 a (dkP (l := [21, a]) h), dkQ (l := [21, a]) h 2 rfl⟩
    next => cases hd
  next hc =>
    obtain rfl : c = 25 := UInt8.toNat_inj.mp hc
    split at hd
    next a r2 =>
      cases hd
      exact ⟨dk_25 a (dkP (l := [25, a]) h), dkQ (l := [25, a]) h 2 rfl⟩
    next => cases hd
  next hc =>
    obtain rfl : c = 26 := UInt8.toNat_inj.mp hc
    cases hd
    exact ⟨dk_26 (dkP (l := [26]) h), dkQ (l := [26]) h 1 rfl⟩
  next hc =>
    obtain rfl : c = 27 := UInt8.toNat_inj.mp hc
    cases hd
    exact ⟨dk_27 (dkP (l := [27]) h), dkQ (l := [27]) h 1 rfl⟩
  next hc =>
    obtain rfl : c = 28 := UInt8.toNat_inj.mp hc
    cases hd
    exact ⟨dk_28 (dkP (l := [28]) h), dkQ (l := [28]) h 1 rfl⟩
  next hc =>
    obtain rfl : c = 29 := UInt8.toNat_inj.mp hc
    cases hd
    exact ⟨dk_29 (dkP (l := [29]) h), dkQ (l := [29]) h 1 rfl⟩
  next hc =>
    obtain rfl : c = 42 := UInt8.toNat_inj.mp hc
    cases hd
    exact ⟨dk_42 (dkP (l := [42]) h), dkQ (l := [42]) h 1 rfl⟩
  next hc =>
    obtain rfl : c = 43 := UInt8.toNat_inj.mp hc
    cases hd
    exact ⟨dk_43 (dkP (l := [43]) h), dkQ (l := [43]) h 1 rfl⟩
  next hc =>
    obtain rfl : c = 44 := UInt8.toNat_inj.mp hc
    cases hd
    exact ⟨dk_44 (dkP (l := [44]) h), dkQ (l := [44]) h 1 rfl⟩
  next hc =>
    obtain rfl : c = 45 := UInt8.toNat_inj.mp hc
    cases hd
    exact ⟨dk_45 (dkP (l := [45]) h), dkQ (l := [45]) h 1 rfl⟩
  next hc =>
    obtain rfl : c = 46 := UInt8.toNat_inj.mp hc
    cases hd
    exact ⟨dk_46 (dkP (l := [46]) h), dkQ (l := [46]) h 1 rfl⟩
  next hc =>
    obtain rfl : c = 47 := UInt8.toNat_inj.mp hc
    cases hd
    exact ⟨dk_47 (dkP (l := [47]) h), dkQ (l := [47]) h 1 rfl⟩
  next hc =>
    obtain rfl : c = 50 := UInt8.toNat_inj.mp hc
    cases hd
    exact ⟨dk_50 (dkP (l := [50]) h), dkQ (l := [50]) h 1 rfl⟩
  next hc =>
    obtain rfl : c = 51 := UInt8.toNat_inj.mp hc
    cases hd
    exact ⟨dk_51 (dkP (l := [51]) h), dkQ (l := [51]) h 1 rfl⟩
  next hc =>
    obtain rfl : c = 52 := UInt8.toNat_inj.mp hc
    cases hd
    exact ⟨dk_52 (dkP (l := [52]) h), dkQ (l := [52]) h 1 rfl⟩
  next hc =>
    obtain rfl : c = 53 := UInt8.toNat_inj.mp hc
    cases hd
    exact ⟨dk_53 (dkP (l := [53]) h), dkQ (l := [53]) h 1 rfl⟩
  next hc =>
    obtain rfl : c = 54 := UInt8.toNat_inj.mp hc
    split at hd
    next a r2 =>
      cases hd
      exact ⟨dk_54 a (dkP (l := [54, a]) h), dkQ (l := [54, a]) h 2 rfl⟩
    next => cases hd
  next hc =>
    obtain rfl : c = 58 := UInt8.toNat_inj.mp hc
    split at hd
    next a r2 =>
      cases hd
      exact ⟨dk_58 a (dkP (l := [58, a]) h), dkQ (l := [58, a]) h 2 rfl⟩
    next => cases hd
  next hc =>
    obtain rfl : c = 59 := UInt8.toNat_inj.mp hc
    cases hd
    exact ⟨dk_59 (dkP (l := [59]) h), dkQ (l := [59]) h 1 rfl⟩
  next hc =>
    obtain rfl : c = 60 := UInt8.toNat_inj.mp hc
    cases hd
    exact ⟨dk_60 (dkP (l := [60]) h), dkQ (l := [60]) h 1 rfl⟩
  next hc =>
    obtain rfl : c = 61 := UInt8.toNat_inj.mp hc
    cases hd
    exact ⟨dk_61 (dkP (l := [61]) h), dkQ (l := [61]) h 1 rfl⟩
  next hc =>
    obtain rfl : c = 62 := UInt8.toNat_inj.mp hc
    cases hd
    exact ⟨dk_62 (dkP (l := [62]) h), dkQ (l := [62]) h 1 rfl⟩
  next hc =>
    obtain rfl : c = 76 := UInt8.toNat_inj.mp hc
    cases hd
    exact ⟨dk_76 (dkP (l := [76]) h), dkQ (l := [76]) h 1 rfl⟩
  next hc =>
    obtain rfl : c = 77 := UInt8.toNat_inj.mp hc
    cases hd
    exact ⟨dk_77 (dkP (l := [77]) h), dkQ (l := [77]) h 1 rfl⟩
  next hc =>
    obtain rfl : c = 78 := UInt8.toNat_inj.mp hc
    cases hd
    exact ⟨dk_78 (dkP (l := [78]) h), dkQ (l := [78]) h 1 rfl⟩
  next hc =>
    obtain rfl : c = 79 := UInt8.toNat_inj.mp hc
    cases hd
    exact ⟨dk_79 (dkP (l := [79]) h), dkQ (l := [79]) h 1 rfl⟩
  next hc =>
    obtain rfl : c = 80 := UInt8.toNat_inj.mp hc
    cases hd
    exact ⟨dk_80 (dkP (l := [80]) h), dkQ (l := [80]) h 1 rfl⟩
  next hc =>
    obtain rfl : c = 83 := UInt8.toNat_inj.mp hc
    cases hd
    exact ⟨dk_83 (dkP (l := [83]) h), dkQ (l := [83]) h 1 rfl⟩
  next hc =>
    obtain rfl : c = 84 := UInt8.toNat_inj.mp hc
    cases hd
    exact ⟨dk_84 (dkP (l := [84]) h), dkQ (l := [84]) h 1 rfl⟩
  next hc =>
    obtain rfl : c = 87 := UInt8.toNat_inj.mp hc
    cases hd
    exact ⟨dk_87 (dkP (l := [87]) h), dkQ (l := [87]) h 1 rfl⟩
  next hc =>
    obtain rfl : c = 89 := UInt8.toNat_inj.mp hc
    cases hd
    exact ⟨dk_89 (dkP (l := [89]) h), dkQ (l := [89]) h 1 rfl⟩
  next hc =>
    obtain rfl : c = 90 := UInt8.toNat_inj.mp hc
    cases hd
    exact ⟨dk_90 (dkP (l := [90]) h), dkQ (l := [90]) h 1 rfl⟩
  next hc =>
    obtain rfl : c = 92 := UInt8.toNat_inj.mp hc
    cases hd
    exact ⟨dk_92 (dkP (l := [92]) h), dkQ (l := [92]) h 1 rfl⟩
  next hc =>
    obtain rfl : c = 96 := UInt8.toNat_inj.mp hc
    cases hd
    exact ⟨dk_96 (dkP (l := [96]) h), dkQ (l := [96]) h 1 rfl⟩
  next hc =>
    obtain rfl : c = 97 := UInt8.toNat_inj.mp hc
    cases hd
    exact ⟨dk_97 (dkP (l := [97]) h), dkQ (l := [97]) h 1 rfl⟩
  next hc =>
    obtain rfl : c = 100 := UInt8.toNat_inj.mp hc
    cases hd
    exact ⟨dk_100 (dkP (l := [100]) h), dkQ (l := [100]) h 1 rfl⟩
  next hc =>
    obtain rfl : c = 104 := UInt8.toNat_inj.mp hc
    cases hd
    exact ⟨dk_104 (dkP (l := [104]) h), dkQ (l := [104]) h 1 rfl⟩
  next hc =>
    obtain rfl : c = 105 := UInt8.toNat_inj.mp hc
    cases hd
    exact ⟨dk_105 (dkP (l := [105]) h), dkQ (l := [105]) h 1 rfl⟩
  next hc =>
    obtain rfl : c = 108 := UInt8.toNat_inj.mp hc
    cases hd
    exact ⟨dk_108 (dkP (l := [108]) h), dkQ (l := [108]) h 1 rfl⟩
  next hc =>
    obtain rfl : c = 112 := UInt8.toNat_inj.mp hc
    cases hd
    exact ⟨dk_112 (dkP (l := [112]) h), dkQ (l := [112]) h 1 rfl⟩
  next hc =>
    obtain rfl : c = 113 := UInt8.toNat_inj.mp hc
    cases hd
    exact ⟨dk_113 (dkP (l := [113]) h), dkQ (l := [113]) h 1 rfl⟩
  next hc =>
    obtain rfl : c = 120 := UInt8.toNat_inj.mp hc
    cases hd
    exact ⟨dk_120 (dkP (l := [120]) h), dkQ (l := [120]) h 1 rfl⟩
  next hc =>
    obtain rfl : c = 122 := UInt8.toNat_inj.mp hc
    cases hd
    exact ⟨dk_122 (dkP (l := [122]) h), dkQ (l := [122]) h 1 rfl⟩
  next hc =>
    obtain rfl : c = 124 := UInt8.toNat_inj.mp hc
    cases hd
    exact ⟨dk_124 (dkP (l := [124]) h), dkQ (l := [124]) h 1 rfl⟩
  next hc =>
    obtain rfl : c = 126 := UInt8.toNat_inj.mp hc
    cases hd
    exact ⟨dk_126 (dkP (l := [126]) h), dkQ (l := [126]) h 1 rfl⟩
  next hc =>
    obtain rfl : c = 128 := UInt8.toNat_inj.mp hc
    cases hd
    exact ⟨dk_128 (dkP (l := [128]) h), dkQ (l := [128]) h 1 rfl⟩
  next hc =>
    obtain rfl : c = 132 := UInt8.toNat_inj.mp hc
    split at hd
    next a b r2 =>
      cases hd
      exact ⟨dk_132 a b (dkP (l := [132, a, b]) h), dkQ (l := [132, a, b]) h 3 rfl⟩
    next => cases hd
  next hc =>
    obtain rfl : c = 133 := UInt8.toNat_inj.mp hc
    cases hd
    exact ⟨dk_133 (dkP (l := [133]) h), dkQ (l := [133]) h 1 rfl⟩
  next hc =>
    obtain rfl : c = 136 := UInt8.toNat_inj.mp hc
    cases hd
    exact ⟨dk_136 (dkP (l := [136]) h), dkQ (l := [136]) h 1 rfl⟩
  next hc =>
    obtain rfl : c = 145 := UInt8.toNat_inj.mp hc
    cases hd
    exact ⟨dk_145 (dkP (l := [145]) h), dkQ (l := [145]) h 1 rfl⟩
  next hc =>
    obtain rfl : c = 146 := UInt8.toNat_inj.mp hc
    cases hd
    exact ⟨dk_146 (dkP (l := [146]) h), dkQ (l := [146]) h 1 rfl⟩
  next hc =>
    obtain rfl : c = 148 := UInt8.toNat_inj.mp hc
    cases hd
    exact ⟨dk_148 (dkP (l := [148]) h), dkQ (l := [148]) h 1 rfl⟩
  next hc =>
    obtain rfl : c = 153 := UInt8.toNat_inj.mp hc
    split at hd
    next a b r2 =>
      cases hd
      exact ⟨dk_153 a b (dkP (l := [153, a, b]) h), dkQ (l := [153, a, b]) h 3 rfl⟩
    next => cases hd
  next hc =>
    obtain rfl : c = 154 := UInt8.toNat_inj.mp hc
    split at hd
    next a b r2 =>
      cases hd
      exact ⟨dk_154 a b (dkP (l := [154, a, b]) h), dkQ (l := [154, a, b]) h 3 rfl⟩
    next => cases hd
  next hc =>
    obtain rfl : c = 155 := UInt8.toNat_inj.mp hc
    split at hd
    next a b r2 =>
      cases hd
      exact ⟨dk_155 a b (dkP (l := [155, a, b]) h), dkQ (l := [155, a, b]) h 3 rfl⟩
    next => cases hd
  next hc =>
    obtain rfl : c = 156 := UInt8.toNat_inj.mp hc
    split at hd
    next a b r2 =>
      cases hd
      exact ⟨dk_156 a b (dkP (l := [156, a, b]) h), dkQ (l := [156, a, b]) h 3 rfl⟩
    next => cases hd
  next hc =>
    obtain rfl : c = 157 := UInt8.toNat_inj.mp hc
    split at hd
    next a b r2 =>
      cases hd
      exact ⟨dk_157 a b (dkP (l := [157, a, b]) h), dkQ (l := [157, a, b]) h 3 rfl⟩
    next => cases hd
  next hc =>
    obtain rfl : c = 158 := UInt8.toNat_inj.mp hc
    split at hd
    next a b r2 =>
      cases hd
      exact ⟨dk_158 a b (dkP (l := [158, a, b]) h), dkQ (l := [158, a, b]) h 3 rfl⟩
    next => cases hd
  next hc =>
    obtain rfl : c = 159 := UInt8.toNat_inj.mp hc
    split at hd
    next a b r2 =>
      cases hd
      exact ⟨dk_159 a b (dkP (l := [159, a, b]) h), dkQ (l := [159, a, b]) h 3 rfl⟩
    next => cases hd
  next hc =>
    obtain rfl : c = 160 := UInt8.toNat_inj.mp hc
    split at hd
    next a b r2 =>
      cases hd
      exact ⟨dk_160 a b (dkP (l := [160, a, b]) h), dkQ (l := [160, a, b]) h 3 rfl⟩
    next => cases hd
  next hc =>
    obtain rfl : c = 161 := UInt8.toNat_inj.mp hc
    split at hd
    next a b r2 =>
      cases hd
      exact ⟨dk_161 a b (dkP (l := [161, a, b]) h), dkQ (l := [161, a, b]) h 3 rfl⟩
    next => cases hd
  next hc =>
    obtain rfl : c = 162 := UInt8.toNat_inj.mp hc
    split at hd
    next a b r2 =>
      cases hd
      exact ⟨dk_162 a b (dkP (l := [162, a, b]) h), dkQ (l := [162, a, b]) h 3 rfl⟩
    next => cases hd
  next hc =>
    obtain rfl : c = 163 := UInt8.toNat_inj.mp hc
    split at hd
    next a b r2 =>
      cases hd
      exact ⟨dk_163 a b (dkP (l := [163, a, b]) h), dkQ (l := [163, a, b]) h 3 rfl⟩
    next => cases hd
  next hc =>
    obtain rfl : c = 164 := UInt8.toNat_inj.mp hc
    split at hd
    next a b r2 =>
      cases hd
      exact ⟨dk_164 a b (dkP (l := [164, a, b]) h), dkQ (l := [164, a, b]) h 3 rfl⟩
    next => cases hd
  next hc =>
    obtain rfl : c = 165 := UInt8.toNat_inj.mp hc
    split at hd
    next a b r2 =>
      cases hd
      exact ⟨dk_165 a b (dkP (l := [165, a, b]) h), dkQ (l := [165, a, b]) h 3 rfl⟩
    next => cases hd
  next hc =>
    obtain rfl : c = 166 := UInt8.toNat_inj.mp hc
    split at hd
    next a b r2 =>
      cases hd
      exact ⟨dk_166 a b (dkP (l := [166, a, b]) h), dkQ (l := [166, a, b]) h 3 rfl⟩
    next => cases hd
  next hc =>
    obtain rfl : c = 167 := UInt8.toNat_inj.mp hc
    split at hd
    next a b r2 =>
      cases hd
      exact ⟨dk_167 a b (dkP (l := [167, a, b]) h), dkQ (l := [167, a, b]) h 3 rfl⟩
    next => cases hd
  next hc =>
    obtain rfl : c = 172 := UInt8.toNat_inj.mp hc
    cases hd
    exact ⟨dk_172 (dkP (l := [172]) h), dkQ (l := [172]) h 1 rfl⟩
  next hc =>
    obtain rfl : c = 176 := UInt8.toNat_inj.mp hc
    cases hd
    exact ⟨dk_176 (dkP (l := [176]) h), dkQ (l := [176]) h 1 rfl⟩
  next hc =>
    obtain rfl : c = 177 := UInt8.toNat_inj.mp hc
    cases hd
    exact ⟨dk_177 (dkP (l := [177]) h), dkQ (l := [177]) h 1 rfl⟩
  next hc =>
    obtain rfl : c = 178 := UInt8.toNat_inj.mp hc
    split at hd
    next a b r2 =>
      cases hd
      exact ⟨dk_178 a b (dkP (l := [178, a, b]) h), dkQ (l := [178, a, b]) h 3 rfl⟩
    next => cases hd
  next hc =>
    obtain rfl : c = 180 := UInt8.toNat_inj.mp hc
    split at hd
    next a b r2 =>
      cases hd
      exact ⟨dk_180 a b (dkP (l := [180, a, b]) h), dkQ (l := [180, a, b]) h 3 rfl⟩
    next => cases hd
  next hc =>
    obtain rfl : c = 181 := UInt8.toNat_inj.mp hc
    split at hd
    next a b r2 =>
      cases hd
      exact ⟨dk_181 a b (dkP (l := [181, a, b]) h), dkQ (l := [181, a, b]) h 3 rfl⟩
    next => cases hd
  next hc =>
    obtain rfl : c = 182 := UInt8.toNat_inj.mp hc
    split at hd
    next a b r2 =>
      cases hd
      exact ⟨dk_182 a b (dkP (l := [182, a, b]) h), dkQ (l := [182, a, b]) h 3 rfl⟩
    next => cases hd
  next hc =>
    obtain rfl : c = 183 := UInt8.toNat_inj.mp hc
    split at hd
    next a b r2 =>
      cases hd
      exact ⟨dk_183 a b (dkP (l := [183, a, b]) h), dkQ (l := [183, a, b]) h 3 rfl⟩
    next => cases hd
  next hc =>
    obtain rfl : c = 184 := UInt8.toNat_inj.mp hc
    split at hd
    next a b r2 =>
      cases hd
      exact ⟨dk_184 a b (dkP (l := [184, a, b]) h), dkQ (l := [184, a, b]) h 3 rfl⟩
    next => cases hd
  next hc =>
    obtain rfl : c = 187 := UInt8.toNat_inj.mp hc
    split at hd
    next a b r2 =>
      cases hd
      exact ⟨dk_187 a b (dkP (l := [187, a, b]) h), dkQ (l := [187, a, b]) h 3 rfl⟩
    next => cases hd
  next hc =>
    obtain rfl : c = 188 := UInt8.toNat_inj.mp hc
    split at hd
    next c2 r2 =>
      split at hd
      next hc2 =>
        obtain rfl : c2 = 4 := UInt8.toNat_inj.mp hc2
        cases hd
        exact ⟨dk_188_4 (dkP (l := [188, 4]) h), dkQ (l := [188, 4]) h 2 rfl⟩
      next hc2 =>
        obtain rfl : c2 = 8 := UInt8.toNat_inj.mp hc2
        cases hd
        exact ⟨dk_188_8 (dkP (l := [188, 8]) h), dkQ (l := [188, 8]) h 2 rfl⟩
      next hc2 =>
        obtain rfl : c2 = 10 := UInt8.toNat_inj.mp hc2
        cases hd
        exact ⟨dk_188_10 (dkP (l := [188, 10]) h), dkQ (l := [188, 10]) h 2 rfl⟩
      next hc2 =>
        obtain rfl : c2 = 11 := UInt8.toNat_inj.mp hc2
        cases hd
        exact ⟨dk_188_11 (dkP (l := [188, 11]) h), dkQ (l := [188, 11]) h 2 rfl⟩
      next => cases hd
    next => cases hd
  next hc =>
    obtain rfl : c = 189 := UInt8.toNat_inj.mp hc
    split at hd
    next a b r2 =>
      cases hd
      exact ⟨dk_189 a b (dkP (l := [189, a, b]) h), dkQ (l := [189, a, b]) h 3 rfl⟩
    next => cases hd
  next hc =>
    obtain rfl : c = 190 := UInt8.toNat_inj.mp hc
    cases hd
    exact ⟨dk_190 (dkP (l := [190]) h), dkQ (l := [190]) h 1 rfl⟩
  next hc =>
    obtain rfl : c = 191 := UInt8.toNat_inj.mp hc
    cases hd
    exact ⟨dk_191 (dkP (l := [191]) h), dkQ (l := [191]) h 1 rfl⟩
  next hc =>
    obtain rfl : c = 192 := UInt8.toNat_inj.mp hc
    split at hd
    next a b r2 =>
      cases hd
      exact ⟨dk_192 a b (dkP (l := [192, a, b]) h), dkQ (l := [192, a, b]) h 3 rfl⟩
    next => cases hd
  next hc =>
    obtain rfl : c = 193 := UInt8.toNat_inj.mp hc
    split at hd
    next a b r2 =>
      cases hd
      exact ⟨dk_193 a b (dkP (l := [193, a, b]) h), dkQ (l := [193, a, b]) h 3 rfl⟩
    next => cases hd
  next hc =>
    obtain rfl : c = 198 := UInt8.toNat_inj.mp hc
    split at hd
    next a b r2 =>
      cases hd
      exact ⟨dk_198 a b (dkP (l := [198, a, b]) h), dkQ (l := [198, a, b]) h 3 rfl⟩
    next => cases hd
  next hc =>
    obtain rfl : c = 199 := UInt8.toNat_inj.mp hc
    split at hd
    next a b r2 =>
      cases hd
      exact ⟨dk_199 a b (dkP (l := [199, a, b]) h), dkQ (l := [199, a, b]) h 3 rfl⟩
    next => cases hd
  next => cases hd
theorem decS_ok {code : ByteArray} {pc n : Nat} {i : Instr} {bs r : List UInt8} (h : code.data.toList.drop pc = bs) (hd : decS bs = some (i, n, r)) : decode code pc = .ok (i, n) ∧ code.data.toList.drop (pc + n) = r := by
  unfold decS at hd
  split at hd
  next c r2 => exact decN_ok h hd
  next => cases hd
