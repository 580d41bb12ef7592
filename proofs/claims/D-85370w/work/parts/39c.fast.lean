/-! the decoder by bytes, an instruction at a time: out of the opcodes' lemmas of DK -/
set_option maxRecDepth 100000
def fq_u2 (o : Nat) (i : Nat) : Option (List Nat × Nat) := if i < 65536 then some ([o, i / 256, i % 256], 3) else none
def fq_s2 (o : Nat) (i : Int) : Option (List Nat × Nat) := if -32768 ≤ i ∧ i < 32768 then some ([o, (i % 65536).toNat / 256, (i % 65536).toNat % 256], 3) else none
def fq_u1 (o : Nat) (i : Nat) : Option (List Nat × Nat) := if i < 256 then some ([o, i], 2) else none
def fq_enc : Instr → Option (List Nat × Nat)
  | .aconst_null => some ([1], 1)
  | .iconst (-1) => some ([2], 1)
  | .iconst 0 => some ([3], 1)
  | .iconst 1 => some ([4], 1)
  | .iconst 2 => some ([5], 1)
  | .iconst 3 => some ([6], 1)
  | .iconst 4 => some ([7], 1)
  | .iconst 5 => some ([8], 1)
  | .lconst 0 => some ([9], 1)
  | .lconst 1 => some ([10], 1)
  | .fconst 0 => some ([11], 1)
  | .fconst 1 => some ([12], 1)
  | .dconst 0 => some ([14], 1)
  | .dconst 1 => some ([15], 1)
  | .iload_n 0 => some ([26], 1)
  | .iload_n 1 => some ([27], 1)
  | .iload_n 2 => some ([28], 1)
  | .iload_n 3 => some ([29], 1)
  | .lload_n 0 => some ([30], 1)
  | .lload_n 1 => some ([31], 1)
  | .lload_n 2 => some ([32], 1)
  | .lload_n 3 => some ([33], 1)
  | .fload_n 3 => some ([37], 1)
  | .dload_n 0 => some ([38], 1)
  | .dload_n 1 => some ([39], 1)
  | .dload_n 2 => some ([40], 1)
  | .dload_n 3 => some ([41], 1)
  | .aload_n 0 => some ([42], 1)
  | .aload_n 1 => some ([43], 1)
  | .aload_n 2 => some ([44], 1)
  | .aload_n 3 => some ([45], 1)
  | .iaload => some ([46], 1)
  | .laload => some ([47], 1)
  | .faload => some ([48], 1)
  | .daload => some ([49], 1)
  | .aaload => some ([50], 1)
  | .baload => some ([51], 1)
  | .caload => some ([52], 1)
  | .saload => some ([53], 1)
  | .istore_n 0 => some ([59], 1)
  | .istore_n 1 => some ([60], 1)
  | .istore_n 2 => some ([61], 1)
  | .istore_n 3 => some ([62], 1)
  | .lstore_n 2 => some ([65], 1)
  | .lstore_n 3 => some ([66], 1)
  | .fstore_n 3 => some ([70], 1)
  | .dstore_n 0 => some ([71], 1)
  | .dstore_n 1 => some ([72], 1)
  | .dstore_n 2 => some ([73], 1)
  | .dstore_n 3 => some ([74], 1)
  | .astore_n 1 => some ([76], 1)
  | .astore_n 2 => some ([77], 1)
  | .astore_n 3 => some ([78], 1)
  | .iastore => some ([79], 1)
  | .lastore => some ([80], 1)
  | .fastore => some ([81], 1)
  | .dastore => some ([82], 1)
  | .aastore => some ([83], 1)
  | .bastore => some ([84], 1)
  | .castore => some ([85], 1)
  | .sastore => some ([86], 1)
  | .pop => some ([87], 1)
  | .dup => some ([89], 1)
  | .dup_x1 => some ([90], 1)
  | .dup2 => some ([92], 1)
  | .iadd => some ([96], 1)
  | .ladd => some ([97], 1)
  | .dadd => some ([99], 1)
  | .isub => some ([100], 1)
  | .lsub => some ([101], 1)
  | .dsub => some ([103], 1)
  | .imul => some ([104], 1)
  | .lmul => some ([105], 1)
  | .dmul => some ([107], 1)
  | .idiv => some ([108], 1)
  | .ldiv => some ([109], 1)
  | .ddiv => some ([111], 1)
  | .irem => some ([112], 1)
  | .lrem => some ([113], 1)
  | .drem => some ([115], 1)
  | .ineg => some ([116], 1)
  | .lneg => some ([117], 1)
  | .dneg => some ([119], 1)
  | .ishl => some ([120], 1)
  | .lshl => some ([121], 1)
  | .ishr => some ([122], 1)
  | .lshr => some ([123], 1)
  | .iushr => some ([124], 1)
  | .iand => some ([126], 1)
  | .land => some ([127], 1)
  | .ior => some ([128], 1)
  | .lor => some ([129], 1)
  | .ixor => some ([130], 1)
  | .lxor => some ([131], 1)
  | .i2l => some ([133], 1)
  | .i2d => some ([135], 1)
  | .l2i => some ([136], 1)
  | .l2d => some ([138], 1)
  | .f2d => some ([141], 1)
  | .d2l => some ([143], 1)
  | .i2b => some ([145], 1)
  | .i2c => some ([146], 1)
  | .i2s => some ([147], 1)
  | .lcmp => some ([148], 1)
  | .fcmp .l => some ([149], 1)
  | .fcmp .g => some ([150], 1)
  | .dcmp .l => some ([151], 1)
  | .dcmp .g => some ([152], 1)
  | .ireturn => some ([172], 1)
  | .lreturn => some ([173], 1)
  | .dreturn => some ([175], 1)
  | .areturn => some ([176], 1)
  | .return_ => some ([177], 1)
  | .newarray .boolean => some ([188, 4], 2)
  | .newarray .char => some ([188, 5], 2)
  | .newarray .float => some ([188, 6], 2)
  | .newarray .double => some ([188, 7], 2)
  | .newarray .byte => some ([188, 8], 2)
  | .newarray .short => some ([188, 9], 2)
  | .newarray .int => some ([188, 10], 2)
  | .newarray .long => some ([188, 11], 2)
  | .arraylength => some ([190], 1)
  | .athrow => some ([191], 1)
  | .bipush n => if -128 ≤ n ∧ n < 128 then some ([16, (n % 256).toNat], 2) else none
  | .sipush i => fq_s2 17 i
  | .ldc i => fq_u1 18 i
  | .ldc_w i => fq_u2 19 i
  | .ldc2_w i => fq_u2 20 i
  | .iload i => fq_u1 21 i
  | .lload i => fq_u1 22 i
  | .dload i => fq_u1 24 i
  | .aload i => fq_u1 25 i
  | .istore i => fq_u1 54 i
  | .lstore i => fq_u1 55 i
  | .dstore i => fq_u1 57 i
  | .astore i => fq_u1 58 i
  | .iinc i n => if i < 256 ∧ -128 ≤ n ∧ n < 128 then some ([132, i, (n % 256).toNat], 3) else none
  | .ifCond .eq i => fq_s2 153 i
  | .ifCond .ne i => fq_s2 154 i
  | .ifCond .lt i => fq_s2 155 i
  | .ifCond .ge i => fq_s2 156 i
  | .ifCond .gt i => fq_s2 157 i
  | .ifCond .le i => fq_s2 158 i
  | .if_icmp .eq i => fq_s2 159 i
  | .if_icmp .ne i => fq_s2 160 i
  | .if_icmp .lt i => fq_s2 161 i
  | .if_icmp .ge i => fq_s2 162 i
  | .if_icmp .gt i => fq_s2 163 i
  | .if_icmp .le i => fq_s2 164 i
  | .if_acmp .eq i => fq_s2 165 i
  | .if_acmp .ne i => fq_s2 166 i
  | .goto i => fq_s2 167 i
  | .getstatic i => fq_u2 178 i
  | .getfield i => fq_u2 180 i
  | .putfield i => fq_u2 181 i
  | .invokevirtual i => fq_u2 182 i
  | .invokespecial i => fq_u2 183 i
  | .invokestatic i => fq_u2 184 i
  | .new i => fq_u2 187 i
  | .anewarray i => fq_u2 189 i
  | .checkcast i => fq_u2 192 i
  | .instanceof i => fq_u2 193 i
  | .ifnull i => fq_s2 198 i
  | .ifnonnull i => fq_s2 199 i
  | _ => none
theorem fq_ofNat (n : Nat) (h : n < 256) : (UInt8.ofNat n).toNat = n := by simp [UInt8.toNat_ofNat']; omega
theorem fq_at {code : ByteArray} {pc : Nat} {bs : List Nat} (h : ∀ (j b : Nat), bs[j]? = some b → (code.data.toList.map UInt8.toNat)[pc + j]? = some b) : DkAt code pc (bs.map UInt8.ofNat) := by
  intro j b e
  rw [List.getElem?_map] at e
  cases q : bs[j]? with
  | none => rw [q] at e; cases e
  | some n =>
    rw [q] at e
    have e := Option.some.inj e
    have := h j n q
    rw [List.getElem?_map] at this
    cases q2 : code.data.toList[pc + j]? with
    | none => rw [q2] at this; cases this
    | some x =>
      rw [q2] at this
      have this := Option.some.inj this
      rw [← e, ← this]
      simp
theorem fq_u2_eq {i : Nat} (h : i < 65536) : (UInt8.ofNat (i / 256)).toNat * 256 + (UInt8.ofNat (i % 256)).toNat = i := by
  rw [fq_ofNat _ (by omega), fq_ofNat _ (by omega)]; omega
theorem fq_s2_eq {i : Int} (h : -32768 ≤ i ∧ i < 32768) : Reader.signed 16 ((UInt8.ofNat ((i % 65536).toNat / 256)).toNat * 256 + (UInt8.ofNat ((i % 65536).toNat % 256)).toNat) = i := by
  rw [fq_ofNat _ (by omega), fq_ofNat _ (by omega)]
  have e : (i % 65536).toNat / 256 * 256 + (i % 65536).toNat % 256 = (i % 65536).toNat := by omega
  rw [e]
  unfold Reader.signed
  split
  · rename_i q; simp at q; omega
  · rename_i q; simp at q; simp; omega
theorem fq_s1_eq {i : Int} (h : -128 ≤ i ∧ i < 128) : Reader.signed 8 (UInt8.ofNat (i % 256).toNat).toNat = i := by
  rw [fq_ofNat _ (by omega)]
  unfold Reader.signed
  split
  · rename_i q; simp at q; omega
  · rename_i q; simp at q; simp; omega
theorem fq_ok {code : ByteArray} {pc : Nat} {ins : Instr} {bs : List Nat} {len : Nat} (e : fq_enc ins = some (bs, len)) (h : ∀ (j b : Nat), bs[j]? = some b → (code.data.toList.map UInt8.toNat)[pc + j]? = some b) : decode code pc = .ok (ins, len) := by
  have h := fq_at h
  unfold fq_enc at e
  split at e
  · cases e; exact dk_1 h
  · cases e; exact dk_2 h
  · cases e; exact dk_3 h
  · cases e; exact dk_4 h
  · cases e; exact dk_5 h
  · cases e; exact dk_6 h
  · cases e; exact dk_7 h
  · cases e; exact dk_8 h
  · cases e; exact dk_9 h
  · cases e; exact dk_10 h
  · cases e; exact dk_11 h
  · cases e; exact dk_12 h
  · cases e; exact dk_14 h
  · cases e; exact dk_15 h
  · cases e; exact dk_26 h
  · cases e; exact dk_27 h
  · cases e; exact dk_28 h
  · cases e; exact dk_29 h
  · cases e; exact dk_30 h
  · cases e; exact dk_31 h
  · cases e; exact dk_32 h
  · cases e; exact dk_33 h
  · cases e; exact dk_37 h
  · cases e; exact dk_38 h
  · cases e; exact dk_39 h
  · cases e; exact dk_40 h
  · cases e; exact dk_41 h
  · cases e; exact dk_42 h
  · cases e; exact dk_43 h
  · cases e; exact dk_44 h
  · cases e; exact dk_45 h
  · cases e; exact dk_46 h
  · cases e; exact dk_47 h
  · cases e; exact dk_48 h
  · cases e; exact dk_49 h
  · cases e; exact dk_50 h
  · cases e; exact dk_51 h
  · cases e; exact dk_52 h
  · cases e; exact dk_53 h
  · cases e; exact dk_59 h
  · cases e; exact dk_60 h
  · cases e; exact dk_61 h
  · cases e; exact dk_62 h
  · cases e; exact dk_65 h
  · cases e; exact dk_66 h
  · cases e; exact dk_70 h
  · cases e; exact dk_71 h
  · cases e; exact dk_72 h
  · cases e; exact dk_73 h
  · cases e; exact dk_74 h
  · cases e; exact dk_76 h
  · cases e; exact dk_77 h
  · cases e; exact dk_78 h
  · cases e; exact dk_79 h
  · cases e; exact dk_80 h
  · cases e; exact dk_81 h
  · cases e; exact dk_82 h
  · cases e; exact dk_83 h
  · cases e; exact dk_84 h
  · cases e; exact dk_85 h
  · cases e; exact dk_86 h
  · cases e; exact dk_87 h
  · cases e; exact dk_89 h
  · cases e; exact dk_90 h
  · cases e; exact dk_92 h
  · cases e; exact dk_96 h
  · cases e; exact dk_97 h
  · cases e; exact dk_99 h
  · cases e; exact dk_100 h
  · cases e; exact dk_101 h
  · cases e; exact dk_103 h
  · cases e; exact dk_104 h
  · cases e; exact dk_105 h
  · cases e; exact dk_107 h
  · cases e; exact dk_108 h
  · cases e; exact dk_109 h
  · cases e; exact dk_111 h
  · cases e; exact dk_112 h
  · cases e; exact dk_113 h
  · cases e; exact dk_115 h
  · cases e; exact dk_116 h
  · cases e; exact dk_117 h
  · cases e; exact dk_119 h
  · cases e; exact dk_120 h
  · cases e; exact dk_121 h
  · cases e; exact dk_122 h
  · cases e; exact dk_123 h
  · cases e; exact dk_124 h
  · cases e; exact dk_126 h
  · cases e; exact dk_127 h
  · cases e; exact dk_128 h
  · cases e; exact dk_129 h
  · cases e; exact dk_130 h
  · cases e; exact dk_131 h
  · cases e; exact dk_133 h
  · cases e; exact dk_135 h
  · cases e; exact dk_136 h
  · cases e; exact dk_138 h
  · cases e; exact dk_141 h
  · cases e; exact dk_143 h
  · cases e; exact dk_145 h
  · cases e; exact dk_146 h
  · cases e; exact dk_147 h
  · cases e; exact dk_148 h
  · cases e; exact dk_149 h
  · cases e; exact dk_150 h
  · cases e; exact dk_151 h
  · cases e; exact dk_152 h
  · cases e; exact dk_172 h
  · cases e; exact dk_173 h
  · cases e; exact dk_175 h
  · cases e; exact dk_176 h
  · cases e; exact dk_177 h
  · cases e; exact dk_188_4 h
  · cases e; exact dk_188_5 h
  · cases e; exact dk_188_6 h
  · cases e; exact dk_188_7 h
  · cases e; exact dk_188_8 h
  · cases e; exact dk_188_9 h
  · cases e; exact dk_188_10 h
  · cases e; exact dk_188_11 h
  · cases e; exact dk_190 h
  · cases e; exact dk_191 h
  · split at e
    · rename_i q; cases e; have := dk_16 _ h; rw [fq_s1_eq q] at this; exact this
    · cases e
  · unfold fq_s2 at e
    split at e
    · rename_i q; cases e; have := dk_17 _ _ h; rw [fq_s2_eq q] at this; exact this
    · cases e
  · unfold fq_u1 at e
    split at e
    · rename_i q; cases e; have := dk_18 _ h; rw [fq_ofNat _ q] at this; exact this
    · cases e
  · unfold fq_u2 at e
    split at e
    · rename_i q; cases e; have := dk_19 _ _ h; rw [fq_u2_eq q] at this; exact this
    · cases e
  · unfold fq_u2 at e
    split at e
    · rename_i q; cases e; have := dk_20 _ _ h; rw [fq_u2_eq q] at this; exact this
    · cases e
  · unfold fq_u1 at e
    split at e
    · rename_i q; cases e; have := dk_21 _ h; rw [fq_ofNat _ q] at this; exact this
    · cases e
  · unfold fq_u1 at e
    split at e
    · rename_i q; cases e; have := dk_22 _ h; rw [fq_ofNat _ q] at this; exact this
    · cases e
  · unfold fq_u1 at e
    split at e
    · rename_i q; cases e; have := dk_24 _ h; rw [fq_ofNat _ q] at this; exact this
    · cases e
  · unfold fq_u1 at e
    split at e
    · rename_i q; cases e; have := dk_25 _ h; rw [fq_ofNat _ q] at this; exact this
    · cases e
  · unfold fq_u1 at e
    split at e
    · rename_i q; cases e; have := dk_54 _ h; rw [fq_ofNat _ q] at this; exact this
    · cases e
  · unfold fq_u1 at e
    split at e
    · rename_i q; cases e; have := dk_55 _ h; rw [fq_ofNat _ q] at this; exact this
    · cases e
  · unfold fq_u1 at e
    split at e
    · rename_i q; cases e; have := dk_57 _ h; rw [fq_ofNat _ q] at this; exact this
    · cases e
  · unfold fq_u1 at e
    split at e
    · rename_i q; cases e; have := dk_58 _ h; rw [fq_ofNat _ q] at this; exact this
    · cases e
  · rename_i i n
    split at e
    · rename_i q; cases e; have := dk_132 _ _ h; rw [fq_ofNat _ q.1, fq_s1_eq q.2] at this; exact this
    · cases e
  · unfold fq_s2 at e
    split at e
    · rename_i q; cases e; have := dk_153 _ _ h; rw [fq_s2_eq q] at this; exact this
    · cases e
  · unfold fq_s2 at e
    split at e
    · rename_i q; cases e; have := dk_154 _ _ h; rw [fq_s2_eq q] at this; exact this
    · cases e
  · unfold fq_s2 at e
    split at e
    · rename_i q; cases e; have := dk_155 _ _ h; rw [fq_s2_eq q] at this; exact this
    · cases e
  · unfold fq_s2 at e
    split at e
    · rename_i q; cases e; have := dk_156 _ _ h; rw [fq_s2_eq q] at this; exact this
    · cases e
  · unfold fq_s2 at e
    split at e
    · rename_i q; cases e; have := dk_157 _ _ h; rw [fq_s2_eq q] at this; exact this
    · cases e
  · unfold fq_s2 at e
    split at e
    · rename_i q; cases e; have := dk_158 _ _ h; rw [fq_s2_eq q] at this; exact this
    · cases e
  · unfold fq_s2 at e
    split at e
    · rename_i q; cases e; have := dk_159 _ _ h; rw [fq_s2_eq q] at this; exact this
    · cases e
  · unfold fq_s2 at e
    split at e
    · rename_i q; cases e; have := dk_160 _ _ h; rw [fq_s2_eq q] at this; exact this
    · cases e
  · unfold fq_s2 at e
    split at e
    · rename_i q; cases e; have := dk_161 _ _ h; rw [fq_s2_eq q] at this; exact this
    · cases e
  · unfold fq_s2 at e
    split at e
    · rename_i q; cases e; have := dk_162 _ _ h; rw [fq_s2_eq q] at this; exact this
    · cases e
  · unfold fq_s2 at e
    split at e
    · rename_i q; cases e; have := dk_163 _ _ h; rw [fq_s2_eq q] at this; exact this
    · cases e
  · unfold fq_s2 at e
    split at e
    · rename_i q; cases e; have := dk_164 _ _ h; rw [fq_s2_eq q] at this; exact this
    · cases e
  · unfold fq_s2 at e
    split at e
    · rename_i q; cases e; have := dk_165 _ _ h; rw [fq_s2_eq q] at this; exact this
    · cases e
  · unfold fq_s2 at e
    split at e
    · rename_i q; cases e; have := dk_166 _ _ h; rw [fq_s2_eq q] at this; exact this
    · cases e
  · unfold fq_s2 at e
    split at e
    · rename_i q; cases e; have := dk_167 _ _ h; rw [fq_s2_eq q] at this; exact this
    · cases e
  · unfold fq_u2 at e
    split at e
    · rename_i q; cases e; have := dk_178 _ _ h; rw [fq_u2_eq q] at this; exact this
    · cases e
  · unfold fq_u2 at e
    split at e
    · rename_i q; cases e; have := dk_180 _ _ h; rw [fq_u2_eq q] at this; exact this
    · cases e
  · unfold fq_u2 at e
    split at e
    · rename_i q; cases e; have := dk_181 _ _ h; rw [fq_u2_eq q] at this; exact this
    · cases e
  · unfold fq_u2 at e
    split at e
    · rename_i q; cases e; have := dk_182 _ _ h; rw [fq_u2_eq q] at this; exact this
    · cases e
  · unfold fq_u2 at e
    split at e
    · rename_i q; cases e; have := dk_183 _ _ h; rw [fq_u2_eq q] at this; exact this
    · cases e
  · unfold fq_u2 at e
    split at e
    · rename_i q; cases e; have := dk_184 _ _ h; rw [fq_u2_eq q] at this; exact this
    · cases e
  · unfold fq_u2 at e
    split at e
    · rename_i q; cases e; have := dk_187 _ _ h; rw [fq_u2_eq q] at this; exact this
    · cases e
  · unfold fq_u2 at e
    split at e
    · rename_i q; cases e; have := dk_189 _ _ h; rw [fq_u2_eq q] at this; exact this
    · cases e
  · unfold fq_u2 at e
    split at e
    · rename_i q; cases e; have := dk_192 _ _ h; rw [fq_u2_eq q] at this; exact this
    · cases e
  · unfold fq_u2 at e
    split at e
    · rename_i q; cases e; have := dk_193 _ _ h; rw [fq_u2_eq q] at this; exact this
    · cases e
  · unfold fq_s2 at e
    split at e
    · rename_i q; cases e; have := dk_198 _ _ h; rw [fq_s2_eq q] at this; exact this
    · cases e
  · unfold fq_s2 at e
    split at e
    · rename_i q; cases e; have := dk_199 _ _ h; rw [fq_s2_eq q] at this; exact this
    · cases e
  · cases e
def fq_pre : List Nat → List Nat → Bool
  | [], _ => true
  | _ :: _, [] => false
  | b :: bs, r :: rs => Nat.beq b r && fq_pre bs rs
theorem fq_pre_ok : ∀ {bs l : List Nat}, fq_pre bs l = true → ∀ (j b : Nat), bs[j]? = some b → l[j]? = some b
  | [], _, _, j, b, e => by cases e
  | _ :: _, [], h, _, _, _ => by cases h
  | c :: bs, r :: rs, h, j, b, e => by
    unfold fq_pre at h
    rw [Bool.and_eq_true] at h
    cases j with
    | zero => have := Nat.eq_of_beq_eq_true h.1; subst this; exact e
    | succ j => exact fq_pre_ok h.2 j b e
def fq_res (o M pc : Nat) (ins : Instr) (x1 : Nat) (x2 : Int) (x3 : Nat) : Bool := match ins with
  | .getfield i => (fi_fk o i == some x1) && (decide (x2 = 0) || (if 0 < x2 then fi_in x2 x1 else fk_only x1 (-x2))) && decide (fi_ft x1 = x3)
  | .getstatic i => fi_sk o i == some (x1, x2)
  | .ldc i => (fi_lk o i == some (x1, x2)) && !(fi_wide (x1, x2))
  | .ldc_w i => (fi_lk o i == some (x1, x2)) && !(fi_wide (x1, x2))
  | .ldc2_w i => (fi_lk o i == some (x1, x2)) && fi_wide (x1, x2)
  | .invokestatic i => (fi_ms o i == some (x1, x2.toNat)) && !(decide (fi_law ≤ x2.toNat) && decide (x2.toNat < 1000)) && decide (fj_rk x2.toNat = x3)
  | .invokevirtual i => (fi_mv o i == some (x1, x2.toNat)) && decide (fi_dk x2.toNat ≠ 3) && fk_vk x2.toNat x3
  | _ => fk_res M pc ins x1 x2 x3
theorem fq_res_ok {o M pc : Nat} {ins : Instr} {x1 : Nat} {x2 : Int} {x3 : Nat} (ho : fi_ow M = o) (h : fq_res o M pc ins x1 x2 x3 = true) : fk_res M pc ins x1 x2 x3 = true := by
  subst ho
  unfold fq_res at h
  split at h <;> exact h
/-- a row of instructions, one behind the other: bytes, cuts, links -/
def fq_b (c : ByteArray) (o M : Nat) (cl : List (Nat × List Nat)) : Nat → List Nat → List fk_E → Bool
  | _, _, [] => true
  | pc, rem, (p, cu, ins, len, x1, x2, x3) :: l => Nat.beq p pc && (match fq_enc ins with
      | some (bs, n) => Nat.beq n len && fq_pre bs rem
      | none => fk_dec c p ins len) && (cl.lookup p == cu) && fq_res o M p ins x1 x2 x3 && fq_b c o M cl (pc + len) (rem.drop len) l
theorem fq_of {c : ByteArray} {o M : Nat} {cl : List (Nat × List Nat)} {bl : List Nat} (hc : fi_code M = c) (ho : fi_ow M = o) (hl : fj_cutT.getD M [] = cl) (hb : c.data.toList.map UInt8.toNat = bl) : ∀ {l : List fk_E} {pc : Nat}, fq_b c o M cl pc (bl.drop pc) l = true → fk_D M l
  | [], _, _ => trivial
  | (p, cu, ins, len, x1, x2, x3) :: l, pc, e => by
    unfold fq_b at e
    simp only [Bool.and_eq_true] at e
    obtain ⟨⟨⟨⟨e1, e2⟩, e3⟩, e4⟩, e5⟩ := e
    have hp := Nat.eq_of_beq_eq_true e1
    subst hp
    rw [List.drop_drop] at e5
    refine ⟨?_, ?_, fq_res_ok ho e4, fq_of hc ho hl hb e5⟩
    · rw [hc]
      split at e2
      · rename_i bs n he
        rw [Bool.and_eq_true] at e2
        have hn := Nat.eq_of_beq_eq_true e2.1
        subst hn
        refine fq_ok he (fun j b q => ?_)
        have := fq_pre_ok e2.2 j b q
        rw [List.getElem?_drop] at this
        rw [hb]
        exact this
      · unfold fk_dec at e2
        split at e2
        · rename_i i n hd
          simp only [Bool.and_eq_true, decide_eq_true_eq] at e2
          rw [hd, e2.1, e2.2]
        · cases e2
    · unfold fj_cut
      rw [hl]
      exact eq_of_beq e3
