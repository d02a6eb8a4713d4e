/-! Walks, printed by gen/gen.py. -/
theorem d_n_step_0 : DD b_n_step 0 (.aload_n 0) 1 1 := ⟨by decide +kernel, rfl⟩
theorem d_n_step_1 : DD b_n_step 1 (.iload_n 2) 1 2 := ⟨by decide +kernel, rfl⟩
theorem d_n_step_2 : DD b_n_step 2 (.iload_n 3) 1 3 := ⟨by decide +kernel, rfl⟩
theorem d_n_step_3 : DD b_n_step 3 .iadd 1 4 := ⟨by decide +kernel, rfl⟩
theorem d_n_step_4 : DD b_n_step 4 .iaload 1 5 := ⟨by decide +kernel, rfl⟩
theorem d_n_step_5 : DD b_n_step 5 .i2l 1 6 := ⟨by decide +kernel, rfl⟩
theorem d_n_step_6 : DD b_n_step 6 (.bipush 24) 2 8 := ⟨by decide +kernel, rfl⟩
theorem d_n_step_8 : DD b_n_step 8 .lshl 1 9 := ⟨by decide +kernel, rfl⟩
theorem d_n_step_9 : DD b_n_step 9 (.aload_n 0) 1 10 := ⟨by decide +kernel, rfl⟩
theorem d_n_step_10 : DD b_n_step 10 (.iload_n 2) 1 11 := ⟨by decide +kernel, rfl⟩
theorem d_n_step_11 : DD b_n_step 11 (.iload_n 3) 1 12 := ⟨by decide +kernel, rfl⟩
theorem d_n_step_12 : DD b_n_step 12 .iadd 1 13 := ⟨by decide +kernel, rfl⟩
theorem d_n_step_13 : DD b_n_step 13 (.iconst 1) 1 14 := ⟨by decide +kernel, rfl⟩
theorem d_n_step_14 : DD b_n_step 14 .isub 1 15 := ⟨by decide +kernel, rfl⟩
theorem d_n_step_15 : DD b_n_step 15 .iaload 1 16 := ⟨by decide +kernel, rfl⟩
theorem d_n_step_16 : DD b_n_step 16 .i2l 1 17 := ⟨by decide +kernel, rfl⟩
theorem d_n_step_17 : DD b_n_step 17 .lor 1 18 := ⟨by decide +kernel, rfl⟩
theorem d_n_step_18 : DD b_n_step 18 (.lstore 4) 2 20 := ⟨by decide +kernel, rfl⟩
theorem d_n_step_20 : DD b_n_step 20 (.lload 4) 2 22 := ⟨by decide +kernel, rfl⟩
theorem d_n_step_22 : DD b_n_step 22 (.aload_n 1) 1 23 := ⟨by decide +kernel, rfl⟩
theorem d_n_step_23 : DD b_n_step 23 (.iload_n 3) 1 24 := ⟨by decide +kernel, rfl⟩
theorem d_n_step_24 : DD b_n_step 24 (.iconst 1) 1 25 := ⟨by decide +kernel, rfl⟩
theorem d_n_step_25 : DD b_n_step 25 .isub 1 26 := ⟨by decide +kernel, rfl⟩
theorem d_n_step_26 : DD b_n_step 26 .iaload 1 27 := ⟨by decide +kernel, rfl⟩
theorem d_n_step_27 : DD b_n_step 27 .i2l 1 28 := ⟨by decide +kernel, rfl⟩
theorem d_n_step_28 : DD b_n_step 28 .ldiv 1 29 := ⟨by decide +kernel, rfl⟩
theorem d_n_step_29 : DD b_n_step 29 (.lstore 6) 2 31 := ⟨by decide +kernel, rfl⟩
theorem d_n_step_31 : DD b_n_step 31 (.lload 4) 2 33 := ⟨by decide +kernel, rfl⟩
theorem d_n_step_33 : DD b_n_step 33 (.aload_n 1) 1 34 := ⟨by decide +kernel, rfl⟩
theorem d_n_step_34 : DD b_n_step 34 (.iload_n 3) 1 35 := ⟨by decide +kernel, rfl⟩
theorem d_n_step_35 : DD b_n_step 35 (.iconst 1) 1 36 := ⟨by decide +kernel, rfl⟩
theorem d_n_step_36 : DD b_n_step 36 .isub 1 37 := ⟨by decide +kernel, rfl⟩
theorem d_n_step_37 : DD b_n_step 37 .iaload 1 38 := ⟨by decide +kernel, rfl⟩
theorem d_n_step_38 : DD b_n_step 38 .i2l 1 39 := ⟨by decide +kernel, rfl⟩
theorem d_n_step_39 : DD b_n_step 39 .lrem 1 40 := ⟨by decide +kernel, rfl⟩
theorem d_n_step_40 : DD b_n_step 40 (.lstore 8) 2 42 := ⟨by decide +kernel, rfl⟩
theorem d_n_step_42 : DD b_n_step 42 (.lload 8) 2 44 := ⟨by decide +kernel, rfl⟩
theorem d_n_step_44 : DD b_n_step 44 (.ldc2_w 20) 3 47 := ⟨by decide +kernel, rfl⟩
theorem d_n_step_47 : DD b_n_step 47 .lcmp 1 48 := ⟨by decide +kernel, rfl⟩
theorem d_n_step_48 : DB b_n_step 48 (.ifCond .gt 59) 59 51 107 := ⟨by decide +kernel, rfl, rfl⟩
theorem d_n_step_51 : DD b_n_step 51 (.lload 6) 2 53 := ⟨by decide +kernel, rfl⟩
theorem d_n_step_53 : DD b_n_step 53 (.ldc2_w 20) 3 56 := ⟨by decide +kernel, rfl⟩
theorem d_n_step_56 : DD b_n_step 56 .lcmp 1 57 := ⟨by decide +kernel, rfl⟩
theorem d_n_step_57 : DB b_n_step 57 (.ifCond .gt 30) 30 60 87 := ⟨by decide +kernel, rfl, rfl⟩
theorem d_n_step_60 : DD b_n_step 60 (.lload 6) 2 62 := ⟨by decide +kernel, rfl⟩
theorem d_n_step_62 : DD b_n_step 62 (.aload_n 1) 1 63 := ⟨by decide +kernel, rfl⟩
theorem d_n_step_63 : DD b_n_step 63 (.iload_n 3) 1 64 := ⟨by decide +kernel, rfl⟩
theorem d_n_step_64 : DD b_n_step 64 (.iconst 2) 1 65 := ⟨by decide +kernel, rfl⟩
theorem d_n_step_65 : DD b_n_step 65 .isub 1 66 := ⟨by decide +kernel, rfl⟩
theorem d_n_step_66 : DD b_n_step 66 .iaload 1 67 := ⟨by decide +kernel, rfl⟩
theorem d_n_step_67 : DD b_n_step 67 .i2l 1 68 := ⟨by decide +kernel, rfl⟩
theorem d_n_step_68 : DD b_n_step 68 .lmul 1 69 := ⟨by decide +kernel, rfl⟩
theorem d_n_step_69 : DD b_n_step 69 (.lload 8) 2 71 := ⟨by decide +kernel, rfl⟩
theorem d_n_step_71 : DD b_n_step 71 (.bipush 24) 2 73 := ⟨by decide +kernel, rfl⟩
theorem d_n_step_73 : DD b_n_step 73 .lshl 1 74 := ⟨by decide +kernel, rfl⟩
theorem d_n_step_74 : DD b_n_step 74 (.aload_n 0) 1 75 := ⟨by decide +kernel, rfl⟩
theorem d_n_step_75 : DD b_n_step 75 (.iload_n 2) 1 76 := ⟨by decide +kernel, rfl⟩
theorem d_n_step_76 : DD b_n_step 76 (.iload_n 3) 1 77 := ⟨by decide +kernel, rfl⟩
theorem d_n_step_77 : DD b_n_step 77 .iadd 1 78 := ⟨by decide +kernel, rfl⟩
theorem d_n_step_78 : DD b_n_step 78 (.iconst 2) 1 79 := ⟨by decide +kernel, rfl⟩
theorem d_n_step_79 : DD b_n_step 79 .isub 1 80 := ⟨by decide +kernel, rfl⟩
theorem d_n_step_80 : DD b_n_step 80 .iaload 1 81 := ⟨by decide +kernel, rfl⟩
theorem d_n_step_81 : DD b_n_step 81 .i2l 1 82 := ⟨by decide +kernel, rfl⟩
theorem d_n_step_82 : DD b_n_step 82 .lor 1 83 := ⟨by decide +kernel, rfl⟩
theorem d_n_step_83 : DD b_n_step 83 .lcmp 1 84 := ⟨by decide +kernel, rfl⟩
theorem d_n_step_84 : DB b_n_step 84 (.ifCond .le 23) 23 87 107 := ⟨by decide +kernel, rfl, rfl⟩
theorem d_n_step_87 : DD b_n_step 87 (.lload 6) 2 89 := ⟨by decide +kernel, rfl⟩
theorem d_n_step_89 : DD b_n_step 89 (.lconst 1) 1 90 := ⟨by decide +kernel, rfl⟩
theorem d_n_step_90 : DD b_n_step 90 .lsub 1 91 := ⟨by decide +kernel, rfl⟩
theorem d_n_step_91 : DD b_n_step 91 (.lstore 6) 2 93 := ⟨by decide +kernel, rfl⟩
theorem d_n_step_93 : DD b_n_step 93 (.lload 8) 2 95 := ⟨by decide +kernel, rfl⟩
theorem d_n_step_95 : DD b_n_step 95 (.aload_n 1) 1 96 := ⟨by decide +kernel, rfl⟩
theorem d_n_step_96 : DD b_n_step 96 (.iload_n 3) 1 97 := ⟨by decide +kernel, rfl⟩
theorem d_n_step_97 : DD b_n_step 97 (.iconst 1) 1 98 := ⟨by decide +kernel, rfl⟩
theorem d_n_step_98 : DD b_n_step 98 .isub 1 99 := ⟨by decide +kernel, rfl⟩
theorem d_n_step_99 : DD b_n_step 99 .iaload 1 100 := ⟨by decide +kernel, rfl⟩
theorem d_n_step_100 : DD b_n_step 100 .i2l 1 101 := ⟨by decide +kernel, rfl⟩
theorem d_n_step_101 : DD b_n_step 101 .ladd 1 102 := ⟨by decide +kernel, rfl⟩
theorem d_n_step_102 : DD b_n_step 102 (.lstore 8) 2 104 := ⟨by decide +kernel, rfl⟩
theorem d_n_step_104 : DB b_n_step 104 (.goto (-62)) (-62) 107 42 := ⟨by decide +kernel, rfl, rfl⟩
theorem d_n_step_107 : DD b_n_step 107 (.lconst 0) 1 108 := ⟨by decide +kernel, rfl⟩
theorem d_n_step_108 : DD b_n_step 108 (.lstore 10) 2 110 := ⟨by decide +kernel, rfl⟩
theorem d_n_step_110 : DD b_n_step 110 (.iconst 0) 1 111 := ⟨by decide +kernel, rfl⟩
theorem d_n_step_111 : DD b_n_step 111 (.istore 12) 2 113 := ⟨by decide +kernel, rfl⟩
theorem d_n_step_113 : DD b_n_step 113 (.iload 12) 2 115 := ⟨by decide +kernel, rfl⟩
theorem d_n_step_115 : DD b_n_step 115 (.iload_n 3) 1 116 := ⟨by decide +kernel, rfl⟩
theorem d_n_step_116 : DB b_n_step 116 (.if_icmp .ge 51) 51 119 167 := ⟨by decide +kernel, rfl, rfl⟩
theorem d_n_step_119 : DD b_n_step 119 (.aload_n 0) 1 120 := ⟨by decide +kernel, rfl⟩
theorem d_n_step_120 : DD b_n_step 120 (.iload_n 2) 1 121 := ⟨by decide +kernel, rfl⟩
theorem d_n_step_121 : DD b_n_step 121 (.iload 12) 2 123 := ⟨by decide +kernel, rfl⟩
theorem d_n_step_123 : DD b_n_step 123 .iadd 1 124 := ⟨by decide +kernel, rfl⟩
theorem d_n_step_124 : DD b_n_step 124 .iaload 1 125 := ⟨by decide +kernel, rfl⟩
theorem d_n_step_125 : DD b_n_step 125 .i2l 1 126 := ⟨by decide +kernel, rfl⟩
theorem d_n_step_126 : DD b_n_step 126 (.lload 10) 2 128 := ⟨by decide +kernel, rfl⟩
theorem d_n_step_128 : DD b_n_step 128 .lsub 1 129 := ⟨by decide +kernel, rfl⟩
theorem d_n_step_129 : DD b_n_step 129 (.lload 6) 2 131 := ⟨by decide +kernel, rfl⟩
theorem d_n_step_131 : DD b_n_step 131 (.aload_n 1) 1 132 := ⟨by decide +kernel, rfl⟩
theorem d_n_step_132 : DD b_n_step 132 (.iload 12) 2 134 := ⟨by decide +kernel, rfl⟩
theorem d_n_step_134 : DD b_n_step 134 .iaload 1 135 := ⟨by decide +kernel, rfl⟩
theorem d_n_step_135 : DD b_n_step 135 .i2l 1 136 := ⟨by decide +kernel, rfl⟩
theorem d_n_step_136 : DD b_n_step 136 .lmul 1 137 := ⟨by decide +kernel, rfl⟩
theorem d_n_step_137 : DD b_n_step 137 .lsub 1 138 := ⟨by decide +kernel, rfl⟩
theorem d_n_step_138 : DD b_n_step 138 (.lstore 13) 2 140 := ⟨by decide +kernel, rfl⟩
theorem d_n_step_140 : DD b_n_step 140 (.aload_n 0) 1 141 := ⟨by decide +kernel, rfl⟩
theorem d_n_step_141 : DD b_n_step 141 (.iload_n 2) 1 142 := ⟨by decide +kernel, rfl⟩
theorem d_n_step_142 : DD b_n_step 142 (.iload 12) 2 144 := ⟨by decide +kernel, rfl⟩
theorem d_n_step_144 : DD b_n_step 144 .iadd 1 145 := ⟨by decide +kernel, rfl⟩
theorem d_n_step_145 : DD b_n_step 145 (.lload 13) 2 147 := ⟨by decide +kernel, rfl⟩
theorem d_n_step_147 : DD b_n_step 147 (.ldc2_w 20) 3 150 := ⟨by decide +kernel, rfl⟩
theorem d_n_step_150 : DD b_n_step 150 .land 1 151 := ⟨by decide +kernel, rfl⟩
theorem d_n_step_151 : DD b_n_step 151 .l2i 1 152 := ⟨by decide +kernel, rfl⟩
theorem d_n_step_152 : DD b_n_step 152 .iastore 1 153 := ⟨by decide +kernel, rfl⟩
theorem d_n_step_153 : DD b_n_step 153 (.lload 13) 2 155 := ⟨by decide +kernel, rfl⟩
theorem d_n_step_155 : DD b_n_step 155 (.bipush 24) 2 157 := ⟨by decide +kernel, rfl⟩
theorem d_n_step_157 : DD b_n_step 157 .lshr 1 158 := ⟨by decide +kernel, rfl⟩
theorem d_n_step_158 : DD b_n_step 158 .lneg 1 159 := ⟨by decide +kernel, rfl⟩
theorem d_n_step_159 : DD b_n_step 159 (.lstore 10) 2 161 := ⟨by decide +kernel, rfl⟩
theorem d_n_step_161 : DD b_n_step 161 (.iinc 12 1) 3 164 := ⟨by decide +kernel, rfl⟩
theorem d_n_step_164 : DB b_n_step 164 (.goto (-51)) (-51) 167 113 := ⟨by decide +kernel, rfl, rfl⟩
theorem d_n_step_167 : DD b_n_step 167 (.aload_n 0) 1 168 := ⟨by decide +kernel, rfl⟩
theorem d_n_step_168 : DD b_n_step 168 (.iload_n 2) 1 169 := ⟨by decide +kernel, rfl⟩
theorem d_n_step_169 : DD b_n_step 169 (.iload_n 3) 1 170 := ⟨by decide +kernel, rfl⟩
theorem d_n_step_170 : DD b_n_step 170 .iadd 1 171 := ⟨by decide +kernel, rfl⟩
theorem d_n_step_171 : DD b_n_step 171 .iaload 1 172 := ⟨by decide +kernel, rfl⟩
theorem d_n_step_172 : DD b_n_step 172 .i2l 1 173 := ⟨by decide +kernel, rfl⟩
theorem d_n_step_173 : DD b_n_step 173 (.lload 10) 2 175 := ⟨by decide +kernel, rfl⟩
theorem d_n_step_175 : DD b_n_step 175 .lsub 1 176 := ⟨by decide +kernel, rfl⟩
theorem d_n_step_176 : DD b_n_step 176 (.lstore 12) 2 178 := ⟨by decide +kernel, rfl⟩
theorem d_n_step_178 : DD b_n_step 178 (.aload_n 0) 1 179 := ⟨by decide +kernel, rfl⟩
theorem d_n_step_179 : DD b_n_step 179 (.iload_n 2) 1 180 := ⟨by decide +kernel, rfl⟩
theorem d_n_step_180 : DD b_n_step 180 (.iload_n 3) 1 181 := ⟨by decide +kernel, rfl⟩
theorem d_n_step_181 : DD b_n_step 181 .iadd 1 182 := ⟨by decide +kernel, rfl⟩
theorem d_n_step_182 : DD b_n_step 182 (.lload 12) 2 184 := ⟨by decide +kernel, rfl⟩
theorem d_n_step_184 : DD b_n_step 184 (.ldc2_w 20) 3 187 := ⟨by decide +kernel, rfl⟩
theorem d_n_step_187 : DD b_n_step 187 .land 1 188 := ⟨by decide +kernel, rfl⟩
theorem d_n_step_188 : DD b_n_step 188 .l2i 1 189 := ⟨by decide +kernel, rfl⟩
theorem d_n_step_189 : DD b_n_step 189 .iastore 1 190 := ⟨by decide +kernel, rfl⟩
theorem d_n_step_190 : DD b_n_step 190 (.lload 12) 2 192 := ⟨by decide +kernel, rfl⟩
theorem d_n_step_192 : DD b_n_step 192 (.lconst 0) 1 193 := ⟨by decide +kernel, rfl⟩
theorem d_n_step_193 : DD b_n_step 193 .lcmp 1 194 := ⟨by decide +kernel, rfl⟩
theorem d_n_step_194 : DB b_n_step 194 (.ifCond .lt 7) 7 197 201 := ⟨by decide +kernel, rfl, rfl⟩
theorem d_n_step_197 : DD b_n_step 197 (.lload 6) 2 199 := ⟨by decide +kernel, rfl⟩
theorem d_n_step_199 : DD b_n_step 199 .l2i 1 200 := ⟨by decide +kernel, rfl⟩
theorem d_n_step_200 : DD b_n_step 200 .ireturn 1 201 := ⟨by decide +kernel, rfl⟩
theorem d_n_step_201 : DD b_n_step 201 (.iconst 0) 1 202 := ⟨by decide +kernel, rfl⟩
theorem d_n_step_202 : DD b_n_step 202 (.istore 14) 2 204 := ⟨by decide +kernel, rfl⟩
theorem d_n_step_204 : DD b_n_step 204 (.iconst 0) 1 205 := ⟨by decide +kernel, rfl⟩
theorem d_n_step_205 : DD b_n_step 205 (.istore 15) 2 207 := ⟨by decide +kernel, rfl⟩
theorem d_n_step_207 : DD b_n_step 207 (.iload 15) 2 209 := ⟨by decide +kernel, rfl⟩
theorem d_n_step_209 : DD b_n_step 209 (.iload_n 3) 1 210 := ⟨by decide +kernel, rfl⟩
theorem d_n_step_210 : DB b_n_step 210 (.if_icmp .ge 43) 43 213 253 := ⟨by decide +kernel, rfl, rfl⟩
theorem d_n_step_213 : DD b_n_step 213 (.aload_n 0) 1 214 := ⟨by decide +kernel, rfl⟩
theorem d_n_step_214 : DD b_n_step 214 (.iload_n 2) 1 215 := ⟨by decide +kernel, rfl⟩
theorem d_n_step_215 : DD b_n_step 215 (.iload 15) 2 217 := ⟨by decide +kernel, rfl⟩
theorem d_n_step_217 : DD b_n_step 217 .iadd 1 218 := ⟨by decide +kernel, rfl⟩
theorem d_n_step_218 : DD b_n_step 218 .iaload 1 219 := ⟨by decide +kernel, rfl⟩
theorem d_n_step_219 : DD b_n_step 219 (.aload_n 1) 1 220 := ⟨by decide +kernel, rfl⟩
theorem d_n_step_220 : DD b_n_step 220 (.iload 15) 2 222 := ⟨by decide +kernel, rfl⟩
theorem d_n_step_222 : DD b_n_step 222 .iaload 1 223 := ⟨by decide +kernel, rfl⟩
theorem d_n_step_223 : DD b_n_step 223 .iadd 1 224 := ⟨by decide +kernel, rfl⟩
theorem d_n_step_224 : DD b_n_step 224 (.iload 14) 2 226 := ⟨by decide +kernel, rfl⟩
theorem d_n_step_226 : DD b_n_step 226 .iadd 1 227 := ⟨by decide +kernel, rfl⟩
theorem d_n_step_227 : DD b_n_step 227 (.istore 16) 2 229 := ⟨by decide +kernel, rfl⟩
theorem d_n_step_229 : DD b_n_step 229 (.aload_n 0) 1 230 := ⟨by decide +kernel, rfl⟩
theorem d_n_step_230 : DD b_n_step 230 (.iload_n 2) 1 231 := ⟨by decide +kernel, rfl⟩
theorem d_n_step_231 : DD b_n_step 231 (.iload 15) 2 233 := ⟨by decide +kernel, rfl⟩
theorem d_n_step_233 : DD b_n_step 233 .iadd 1 234 := ⟨by decide +kernel, rfl⟩
theorem d_n_step_234 : DD b_n_step 234 (.iload 16) 2 236 := ⟨by decide +kernel, rfl⟩
theorem d_n_step_236 : DD b_n_step 236 (.ldc 50) 2 238 := ⟨by decide +kernel, rfl⟩
theorem d_n_step_238 : DD b_n_step 238 .iand 1 239 := ⟨by decide +kernel, rfl⟩
theorem d_n_step_239 : DD b_n_step 239 .iastore 1 240 := ⟨by decide +kernel, rfl⟩
theorem d_n_step_240 : DD b_n_step 240 (.iload 16) 2 242 := ⟨by decide +kernel, rfl⟩
theorem d_n_step_242 : DD b_n_step 242 (.bipush 24) 2 244 := ⟨by decide +kernel, rfl⟩
theorem d_n_step_244 : DD b_n_step 244 .ishr 1 245 := ⟨by decide +kernel, rfl⟩
theorem d_n_step_245 : DD b_n_step 245 (.istore 14) 2 247 := ⟨by decide +kernel, rfl⟩
theorem d_n_step_247 : DD b_n_step 247 (.iinc 15 1) 3 250 := ⟨by decide +kernel, rfl⟩
theorem d_n_step_250 : DB b_n_step 250 (.goto (-43)) (-43) 253 207 := ⟨by decide +kernel, rfl, rfl⟩
theorem d_n_step_253 : DD b_n_step 253 (.aload_n 0) 1 254 := ⟨by decide +kernel, rfl⟩
theorem d_n_step_254 : DD b_n_step 254 (.iload_n 2) 1 255 := ⟨by decide +kernel, rfl⟩
theorem d_n_step_255 : DD b_n_step 255 (.iload_n 3) 1 256 := ⟨by decide +kernel, rfl⟩
theorem d_n_step_256 : DD b_n_step 256 .iadd 1 257 := ⟨by decide +kernel, rfl⟩
theorem d_n_step_257 : DD b_n_step 257 (.aload_n 0) 1 258 := ⟨by decide +kernel, rfl⟩
theorem d_n_step_258 : DD b_n_step 258 (.iload_n 2) 1 259 := ⟨by decide +kernel, rfl⟩
theorem d_n_step_259 : DD b_n_step 259 (.iload_n 3) 1 260 := ⟨by decide +kernel, rfl⟩
theorem d_n_step_260 : DD b_n_step 260 .iadd 1 261 := ⟨by decide +kernel, rfl⟩
theorem d_n_step_261 : DD b_n_step 261 .iaload 1 262 := ⟨by decide +kernel, rfl⟩
theorem d_n_step_262 : DD b_n_step 262 (.iload 14) 2 264 := ⟨by decide +kernel, rfl⟩
theorem d_n_step_264 : DD b_n_step 264 .iadd 1 265 := ⟨by decide +kernel, rfl⟩
theorem d_n_step_265 : DD b_n_step 265 (.ldc 50) 2 267 := ⟨by decide +kernel, rfl⟩
theorem d_n_step_267 : DD b_n_step 267 .iand 1 268 := ⟨by decide +kernel, rfl⟩
theorem d_n_step_268 : DD b_n_step 268 .iastore 1 269 := ⟨by decide +kernel, rfl⟩
theorem d_n_step_269 : DD b_n_step 269 (.lload 6) 2 271 := ⟨by decide +kernel, rfl⟩
theorem d_n_step_271 : DD b_n_step 271 .l2i 1 272 := ⟨by decide +kernel, rfl⟩
theorem d_n_step_272 : DD b_n_step 272 (.iconst 1) 1 273 := ⟨by decide +kernel, rfl⟩
theorem d_n_step_273 : DD b_n_step 273 .isub 1 274 := ⟨by decide +kernel, rfl⟩
theorem d_n_step_274 : DD b_n_step 274 .ireturn 1 275 := ⟨by decide +kernel, rfl⟩
set_option maxRecDepth 20000 in
set_option maxHeartbeats 4000000 in
theorem c_n_step (l : Launch) (G : ZG) {u v j n : Int} {σ : Mem} {K : Int → Mem → Prop} (h : wp_n_step u v j n σ K) (h_u : isA u) (h_v : isA v) (h_j : okI j) (h_n : okI n) : Ct l G y_n_step (.code y_n_step b_n_step 17 (some .int)) { frames := 0, cells := 0, slots := 0, locals := 0 } 0 0 1 [.ref (zA G u), .ref (zA G v), .int (iI j), .int (iI n)] σ K (fun _ _ => False) := by
  unfold wp_n_step at h
  refine Ct.ofZ [(0, .ref (zA G u)), (1, .ref (zA G v)), (2, .int (iI j)), (3, .int (iI n))] "LimbDesk$Num" (by decide) rfl (Nat.le_of_ble_eq_true rfl) rfl ?_
  intro E hR hlE C hr hX
  subst hlE
  clear hR
  obtain ⟨Q, hQ⟩ : ∃ Q, Q = MQX G (zb E) 1 K (fun _ _ => False) (zs E) 0 0 0 0 := ⟨_, rfl⟩
  show Z E G 17 0 0 (MQX G (zb E) 1 K (fun _ _ => False) (zs E) 0 0 0 0) σ 0 [(0, .ref (zA G u)), (1, .ref (zA G v)), (2, .int (iI j)), (3, .int (iI n))] []
  rw [← hQ]
  refine z_aload_n C 0 d_n_step_0 rfl ?_
  refine z_iload_n C 2 d_n_step_1 rfl ?_
  refine z_iload_n C 3 d_n_step_2 rfl ?_
  refine z_iadd C d_n_step_3 ?_
  obtain ⟨hc1, h⟩ := h
  refine z_ialdN C (ln u) d_n_step_4 h_u rfl hc1 ?_
  obtain ⟨ok2, h⟩ := h
  refine z_i2l C d_n_step_5 ok2 ?_
  refine z_bipush C d_n_step_6 (by decide) ?_
  refine z_lshlK C 16777216 d_n_step_8 (by decide) ⟨by decide, by decide⟩ ?_
  refine z_aload_n C 0 d_n_step_9 rfl ?_
  refine z_iload_n C 2 d_n_step_10 rfl ?_
  refine z_iload_n C 3 d_n_step_11 rfl ?_
  refine z_iadd C d_n_step_12 ?_
  refine z_iconst C d_n_step_13 ?_
  refine z_isub C d_n_step_14 ?_
  obtain ⟨hc3, h⟩ := h
  refine z_ialdN C (ln u) d_n_step_15 h_u rfl hc3 ?_
  obtain ⟨ok4, h⟩ := h
  refine z_i2l C d_n_step_16 ok4 ?_
  refine z_lor C d_n_step_17 ?_
  refine z_namel (fun v4_5 e6 => ?_)
  have h := h v4_5 e6
  have ok7 : okL v4_5 := by rw [e6]; exact (okL_or _ _)
  refine z_lstore C [(4, .long (lL v4_5)), (0, .ref (zA G u)), (1, .ref (zA G v)), (2, .int (iI j)), (3, .int (iI n))] d_n_step_18 (by decide) rfl ?_
  refine z_lload C 0 d_n_step_20 rfl ?_
  refine z_aload_n C 2 d_n_step_22 rfl ?_
  refine z_iload_n C 4 d_n_step_23 rfl ?_
  refine z_iconst C d_n_step_24 ?_
  refine z_isub C d_n_step_25 ?_
  obtain ⟨hc8, h⟩ := h
  refine z_ialdN C (ln v) d_n_step_26 h_v rfl hc8 ?_
  obtain ⟨ok9, h⟩ := h
  refine z_i2l C d_n_step_27 ok9 ?_
  obtain ⟨hc10, h⟩ := h
  obtain ⟨hc11, h⟩ := h
  refine z_ldiv C d_n_step_28 hc10 hc11 ?_
  refine z_namel (fun v6_12 e13 => ?_)
  have h := h v6_12 e13
  refine z_lstore C [(6, .long (lL v6_12)), (4, .long (lL v4_5)), (0, .ref (zA G u)), (1, .ref (zA G v)), (2, .int (iI j)), (3, .int (iI n))] d_n_step_29 (by decide) rfl ?_
  refine z_lload C 1 d_n_step_31 rfl ?_
  refine z_aload_n C 3 d_n_step_33 rfl ?_
  refine z_iload_n C 5 d_n_step_34 rfl ?_
  refine z_iconst C d_n_step_35 ?_
  refine z_isub C d_n_step_36 ?_
  refine z_ialdN C (ln v) d_n_step_37 h_v rfl hc8 ?_
  refine z_i2l C d_n_step_38 ok9 ?_
  refine z_lrem C d_n_step_39 hc10 hc11 ?_
  refine z_namel (fun v8_14 e15 => ?_)
  have h := h v8_14 e15
  refine z_lstore C [(8, .long (lL v8_14)), (6, .long (lL v6_12)), (4, .long (lL v4_5)), (0, .ref (zA G u)), (1, .ref (zA G v)), (2, .int (iI j)), (3, .int (iI n))] d_n_step_40 (by decide) rfl ?_
  refine z_sub [(0, .ref (zA G u)), (1, .ref (zA G v)), (2, .int (iI j)), (3, .int (iI n)), (6, .long (lL v6_12)), (8, .long (lL v8_14))] [3, 4, 5, 6, 1, 0] rfl ?_
  refine (Lq2.walk (P := fun v6_16 v8_17 => Z E G 17 0 0 Q σ 42 [(0, .ref (zA G u)), (1, .ref (zA G v)), (2, .int (iI j)), (3, .int (iI n)), (6, .long (lL v6_16)), (8, .long (lL v8_17))] []) ?_ h)
  intro v6_16 v8_17 again18 Hagain18 h
  refine z_lload C 5 d_n_step_42 rfl ?_
  refine z_ldc2 C d_n_step_44 k_164 (n := 16777215) (by decide) ?_
  obtain ⟨ok19, h⟩ := h
  refine Jq0.walk (Z E G 17 0 0 Q σ 107 [(0, .ref (zA G u)), (1, .ref (zA G v)), (2, .int (iI j)), (3, .int (iI n)), (6, .long (lL v6_16))] []) h ?_ ?_
  · intro h
    refine z_lconst C d_n_step_107 ?_
    refine z_lstore C [(10, .long (lL 0)), (0, .ref (zA G u)), (1, .ref (zA G v)), (2, .int (iI j)), (3, .int (iI n)), (6, .long (lL v6_16))] d_n_step_108 (by decide) rfl ?_
    refine z_iconst C d_n_step_110 ?_
    refine z_istore C [(12, .int (iI 0)), (10, .long (lL 0)), (0, .ref (zA G u)), (1, .ref (zA G v)), (2, .int (iI j)), (3, .int (iI n)), (6, .long (lL v6_16))] d_n_step_111 (by decide) rfl ?_
    refine z_sub [(0, .ref (zA G u)), (1, .ref (zA G v)), (2, .int (iI j)), (3, .int (iI n)), (6, .long (lL v6_16)), (10, .long (lL 0)), (12, .int (iI 0))] [2, 3, 4, 5, 6, 1, 0] rfl ?_
    refine (Lo2.walk (P := fun v10_21 v12_22 σ23 => okI v12_22 → Z E G 17 0 0 Q σ23 113 [(0, .ref (zA G u)), (1, .ref (zA G v)), (2, .int (iI j)), (3, .int (iI n)), (6, .long (lL v6_16)), (10, .long (lL v10_21)), (12, .int (iI v12_22))] []) ?_ h) (okI_lit rfl)
    intro v10_21 v12_22 σ23 again25 Hagain25 h ok24
    refine z_iload C 6 d_n_step_113 rfl ?_
    refine z_iload_n C 3 d_n_step_115 rfl ?_
    refine z_icmp_ge C d_n_step_116 ok24 h_n (fun hb26 => ?_) (fun hb26 => ?_)
    · have h := h.1 hb26
      refine z_aload_n C 0 d_n_step_167 rfl ?_
      refine z_iload_n C 2 d_n_step_168 rfl ?_
      refine z_iload_n C 3 d_n_step_169 rfl ?_
      refine z_iadd C d_n_step_170 ?_
      refine z_ialdN C (ln u) d_n_step_171 h_u rfl hc1 ?_
      obtain ⟨ok27, h⟩ := h
      refine z_i2l C d_n_step_172 ok27 ?_
      refine z_lload C 5 d_n_step_173 rfl ?_
      refine z_lsub C d_n_step_175 ?_
      refine z_namel (fun v12_28 e29 => ?_)
      have h := h v12_28 e29
      refine z_lstore C [(12, .long (lL v12_28)), (0, .ref (zA G u)), (1, .ref (zA G v)), (2, .int (iI j)), (3, .int (iI n)), (6, .long (lL v6_16)), (10, .long (lL v10_21))] d_n_step_176 (by decide) rfl ?_
      refine z_aload_n C 1 d_n_step_178 rfl ?_
      refine z_iload_n C 3 d_n_step_179 rfl ?_
      refine z_iload_n C 4 d_n_step_180 rfl ?_
      refine z_iadd C d_n_step_181 ?_
      refine z_lload C 0 d_n_step_182 rfl ?_
      refine z_ldc2 C d_n_step_184 k_164 (n := 16777215) (by decide) ?_
      refine z_lmask C 24 16777216 d_n_step_187 (by decide) (by decide) (by decide) ?_
      refine z_l2i C d_n_step_188 ?_
      refine z_iastN C (ln u) d_n_step_189 h_u rfl hc1 ?_
      refine z_lload C 0 d_n_step_190 rfl ?_
      refine z_lconst C d_n_step_192 ?_
      obtain ⟨ok30, h⟩ := h
      refine z_lcmp_lt C d_n_step_193 d_n_step_194 ok30 (okL_lit rfl) (fun hb31 => ?_) (fun hb31 => ?_)
      · have h := h.1 hb31
        refine z_iconst C d_n_step_201 ?_
        refine z_istore C [(14, .int (iI 0)), (12, .long (lL v12_28)), (0, .ref (zA G u)), (1, .ref (zA G v)), (2, .int (iI j)), (3, .int (iI n)), (6, .long (lL v6_16)), (10, .long (lL v10_21))] d_n_step_202 (by decide) rfl ?_
        refine z_iconst C d_n_step_204 ?_
        refine z_istore C [(15, .int (iI 0)), (14, .int (iI 0)), (12, .long (lL v12_28)), (0, .ref (zA G u)), (1, .ref (zA G v)), (2, .int (iI j)), (3, .int (iI n)), (6, .long (lL v6_16)), (10, .long (lL v10_21))] d_n_step_205 (by decide) rfl ?_
        refine z_sub [(0, .ref (zA G u)), (1, .ref (zA G v)), (2, .int (iI j)), (3, .int (iI n)), (6, .long (lL v6_16)), (14, .int (iI 0)), (15, .int (iI 0))] [3, 4, 5, 6, 7, 1, 0] rfl ?_
        refine (Lo2.walk (P := fun v14_32 v15_33 σ34 => okI v14_32 → okI v15_33 → Z E G 17 0 0 Q σ34 207 [(0, .ref (zA G u)), (1, .ref (zA G v)), (2, .int (iI j)), (3, .int (iI n)), (6, .long (lL v6_16)), (14, .int (iI v14_32)), (15, .int (iI v15_33))] []) ?_ h) (okI_lit rfl) (okI_lit rfl)
        intro v14_32 v15_33 σ34 again37 Hagain37 h ok35 ok36
        refine z_iload C 6 d_n_step_207 rfl ?_
        refine z_iload_n C 3 d_n_step_209 rfl ?_
        refine z_icmp_ge C d_n_step_210 ok36 h_n (fun hb38 => ?_) (fun hb38 => ?_)
        · have h := h.1 hb38
          refine z_aload_n C 0 d_n_step_253 rfl ?_
          refine z_iload_n C 2 d_n_step_254 rfl ?_
          refine z_iload_n C 3 d_n_step_255 rfl ?_
          refine z_iadd C d_n_step_256 ?_
          refine z_aload_n C 0 d_n_step_257 rfl ?_
          refine z_iload_n C 2 d_n_step_258 rfl ?_
          refine z_iload_n C 3 d_n_step_259 rfl ?_
          refine z_iadd C d_n_step_260 ?_
          refine z_ialdN C (ln u) d_n_step_261 h_u rfl hc1 ?_
          refine z_iload C 5 d_n_step_262 rfl ?_
          refine z_iadd C d_n_step_264 ?_
          refine z_ldc C d_n_step_265 k_261 (n := 16777215) (by decide) ?_
          refine z_imask C 24 16777216 d_n_step_267 (by decide) (by decide) (by decide) ?_
          refine z_iastN C (ln u) d_n_step_268 h_u rfl hc1 ?_
          refine z_lload C 4 d_n_step_269 rfl ?_
          refine z_l2i C d_n_step_271 ?_
          refine z_iconst C d_n_step_272 ?_
          refine z_isub C d_n_step_273 ?_
          obtain ⟨ok39, h⟩ := h
          subst hQ
          exact z_ireturn C d_n_step_274.1 hr ⟨Nat.zero_le _, Nat.zero_le _⟩ ok39 h
        · have h := h.2 hb38
          refine z_aload_n C 0 d_n_step_213 rfl ?_
          refine z_iload_n C 2 d_n_step_214 rfl ?_
          refine z_iload C 6 d_n_step_215 rfl ?_
          refine z_iadd C d_n_step_217 ?_
          obtain ⟨hc40, h⟩ := h
          refine z_ialdN C (ln u) d_n_step_218 h_u rfl hc40 ?_
          refine z_aload_n C 1 d_n_step_219 rfl ?_
          refine z_iload C 6 d_n_step_220 rfl ?_
          obtain ⟨hc41, h⟩ := h
          refine z_ialdN C (ln v) d_n_step_222 h_v rfl hc41 ?_
          refine z_iadd C d_n_step_223 ?_
          refine z_iload C 5 d_n_step_224 rfl ?_
          refine z_iadd C d_n_step_226 ?_
          refine z_namei (fun v16_42 e43 => ?_)
          have h := h v16_42 e43
          refine z_istore C [(16, .int (iI v16_42)), (0, .ref (zA G u)), (1, .ref (zA G v)), (2, .int (iI j)), (3, .int (iI n)), (6, .long (lL v6_16)), (14, .int (iI v14_32)), (15, .int (iI v15_33))] d_n_step_227 (by decide) rfl ?_
          refine z_aload_n C 1 d_n_step_229 rfl ?_
          refine z_iload_n C 3 d_n_step_230 rfl ?_
          refine z_iload C 7 d_n_step_231 rfl ?_
          refine z_iadd C d_n_step_233 ?_
          refine z_iload C 0 d_n_step_234 rfl ?_
          refine z_ldc C d_n_step_236 k_261 (n := 16777215) (by decide) ?_
          refine z_imask C 24 16777216 d_n_step_238 (by decide) (by decide) (by decide) ?_
          refine z_iastN C (ln u) d_n_step_239 h_u rfl hc40 ?_
          refine z_iload C 0 d_n_step_240 rfl ?_
          refine z_bipush C d_n_step_242 (by decide) ?_
          obtain ⟨ok44, h⟩ := h
          refine z_ishrK C 16777216 d_n_step_244 (by decide) ok44 ⟨by decide, by decide⟩ ?_
          refine z_namei (fun v14_45 e46 => ?_)
          have h := h v14_45 e46
          refine z_istore C [(14, .int (iI v14_45)), (16, .int (iI v16_42)), (0, .ref (zA G u)), (1, .ref (zA G v)), (2, .int (iI j)), (3, .int (iI n)), (6, .long (lL v6_16)), (15, .int (iI v15_33))] d_n_step_245 (by decide) rfl ?_
          refine z_iinc C 7 [(15, .int (iI (v15_33 + 1))), (14, .int (iI v14_45)), (16, .int (iI v16_42)), (0, .ref (zA G u)), (1, .ref (zA G v)), (2, .int (iI j)), (3, .int (iI n)), (6, .long (lL v6_16))] d_n_step_247 rfl (by decide) rfl ?_
          refine z_goto C d_n_step_250 ?_
          obtain ⟨ok47, h⟩ := h
          obtain ⟨ok48, h⟩ := h
          refine z_sub [(0, .ref (zA G u)), (1, .ref (zA G v)), (2, .int (iI j)), (3, .int (iI n)), (6, .long (lL v6_16)), (14, .int (iI v14_45)), (15, .int (iI (v15_33 + 1)))] [3, 4, 5, 6, 7, 1, 0] rfl ?_
          exact Hagain37 _ _ _ h ok47 ok48
      · have h := h.2 hb31
        refine z_lload C 5 d_n_step_197 rfl ?_
        refine z_l2i C d_n_step_199 ?_
        obtain ⟨ok49, h⟩ := h
        subst hQ
        exact z_ireturn C d_n_step_200.1 hr ⟨Nat.zero_le _, Nat.zero_le _⟩ ok49 h
    · have h := h.2 hb26
      refine z_aload_n C 0 d_n_step_119 rfl ?_
      refine z_iload_n C 2 d_n_step_120 rfl ?_
      refine z_iload C 6 d_n_step_121 rfl ?_
      refine z_iadd C d_n_step_123 ?_
      obtain ⟨hc50, h⟩ := h
      refine z_ialdN C (ln u) d_n_step_124 h_u rfl hc50 ?_
      obtain ⟨ok51, h⟩ := h
      refine z_i2l C d_n_step_125 ok51 ?_
      refine z_lload C 5 d_n_step_126 rfl ?_
      refine z_lsub C d_n_step_128 ?_
      refine z_lload C 4 d_n_step_129 rfl ?_
      refine z_aload_n C 1 d_n_step_131 rfl ?_
      refine z_iload C 6 d_n_step_132 rfl ?_
      obtain ⟨hc52, h⟩ := h
      refine z_ialdN C (ln v) d_n_step_134 h_v rfl hc52 ?_
      obtain ⟨ok53, h⟩ := h
      refine z_i2l C d_n_step_135 ok53 ?_
      refine z_lmul C d_n_step_136 ?_
      refine z_lsub C d_n_step_137 ?_
      refine z_namel (fun v13_54 e55 => ?_)
      have h := h v13_54 e55
      refine z_lstore C [(13, .long (lL v13_54)), (0, .ref (zA G u)), (1, .ref (zA G v)), (2, .int (iI j)), (3, .int (iI n)), (6, .long (lL v6_16)), (10, .long (lL v10_21)), (12, .int (iI v12_22))] d_n_step_138 (by decide) rfl ?_
      refine z_aload_n C 1 d_n_step_140 rfl ?_
      refine z_iload_n C 3 d_n_step_141 rfl ?_
      refine z_iload C 7 d_n_step_142 rfl ?_
      refine z_iadd C d_n_step_144 ?_
      refine z_lload C 0 d_n_step_145 rfl ?_
      refine z_ldc2 C d_n_step_147 k_164 (n := 16777215) (by decide) ?_
      refine z_lmask C 24 16777216 d_n_step_150 (by decide) (by decide) (by decide) ?_
      refine z_l2i C d_n_step_151 ?_
      refine z_iastN C (ln u) d_n_step_152 h_u rfl hc50 ?_
      refine z_lload C 0 d_n_step_153 rfl ?_
      refine z_bipush C d_n_step_155 (by decide) ?_
      obtain ⟨ok56, h⟩ := h
      refine z_lshrK C 16777216 d_n_step_157 (by decide) ok56 ⟨by decide, by decide⟩ ?_
      refine z_lneg C d_n_step_158 ?_
      refine z_namel (fun v10_57 e58 => ?_)
      have h := h v10_57 e58
      refine z_lstore C [(10, .long (lL v10_57)), (13, .long (lL v13_54)), (0, .ref (zA G u)), (1, .ref (zA G v)), (2, .int (iI j)), (3, .int (iI n)), (6, .long (lL v6_16)), (12, .int (iI v12_22))] d_n_step_159 (by decide) rfl ?_
      refine z_iinc C 7 [(12, .int (iI (v12_22 + 1))), (10, .long (lL v10_57)), (13, .long (lL v13_54)), (0, .ref (zA G u)), (1, .ref (zA G v)), (2, .int (iI j)), (3, .int (iI n)), (6, .long (lL v6_16))] d_n_step_161 rfl (by decide) rfl ?_
      refine z_goto C d_n_step_164 ?_
      obtain ⟨ok59, h⟩ := h
      refine z_sub [(0, .ref (zA G u)), (1, .ref (zA G v)), (2, .int (iI j)), (3, .int (iI n)), (6, .long (lL v6_16)), (10, .long (lL v10_57)), (12, .int (iI (v12_22 + 1)))] [3, 4, 5, 6, 7, 1, 0] rfl ?_
      exact Hagain25 _ _ _ h ok59
  · intro J20 HJ20 h
    refine z_lcmp_gt C d_n_step_47 d_n_step_48 ok19 (okL_lit rfl) (fun hb60 => ?_) (fun hb60 => ?_)
    · have h := h.1 hb60
      refine z_sub [(0, .ref (zA G u)), (1, .ref (zA G v)), (2, .int (iI j)), (3, .int (iI n)), (6, .long (lL v6_16))] [0, 1, 2, 3, 4] rfl ?_
      exact HJ20 h
    · have h := h.2 hb60
      refine z_lload C 4 d_n_step_51 rfl ?_
      refine z_ldc2 C d_n_step_53 k_164 (n := 16777215) (by decide) ?_
      obtain ⟨ok61, h⟩ := h
      refine Jq0.walk (Z E G 17 0 0 Q σ 87 [(0, .ref (zA G u)), (1, .ref (zA G v)), (2, .int (iI j)), (3, .int (iI n)), (6, .long (lL v6_16)), (8, .long (lL v8_17))] []) h ?_ ?_
      · intro h
        refine z_lload C 4 d_n_step_87 rfl ?_
        refine z_lconst C d_n_step_89 ?_
        refine z_lsub C d_n_step_90 ?_
        refine z_namel (fun v6_63 e64 => ?_)
        have h := h v6_63 e64
        refine z_lstore C [(6, .long (lL v6_63)), (0, .ref (zA G u)), (1, .ref (zA G v)), (2, .int (iI j)), (3, .int (iI n)), (8, .long (lL v8_17))] d_n_step_91 (by decide) rfl ?_
        refine z_lload C 5 d_n_step_93 rfl ?_
        refine z_aload_n C 2 d_n_step_95 rfl ?_
        refine z_iload_n C 4 d_n_step_96 rfl ?_
        refine z_iconst C d_n_step_97 ?_
        refine z_isub C d_n_step_98 ?_
        refine z_ialdN C (ln v) d_n_step_99 h_v rfl hc8 ?_
        refine z_i2l C d_n_step_100 ok9 ?_
        refine z_ladd C d_n_step_101 ?_
        refine z_namel (fun v8_65 e66 => ?_)
        have h := h v8_65 e66
        refine z_lstore C [(8, .long (lL v8_65)), (6, .long (lL v6_63)), (0, .ref (zA G u)), (1, .ref (zA G v)), (2, .int (iI j)), (3, .int (iI n))] d_n_step_102 (by decide) rfl ?_
        refine z_goto C d_n_step_104 ?_
        refine z_sub [(0, .ref (zA G u)), (1, .ref (zA G v)), (2, .int (iI j)), (3, .int (iI n)), (6, .long (lL v6_63)), (8, .long (lL v8_65))] [2, 3, 4, 5, 1, 0] rfl ?_
        exact Hagain18 _ _ h
      · intro J62 HJ62 h
        refine z_lcmp_gt C d_n_step_56 d_n_step_57 ok61 (okL_lit rfl) (fun hb67 => ?_) (fun hb67 => ?_)
        · have h := h.1 hb67
          refine z_sub [(0, .ref (zA G u)), (1, .ref (zA G v)), (2, .int (iI j)), (3, .int (iI n)), (6, .long (lL v6_16)), (8, .long (lL v8_17))] [0, 1, 2, 3, 4, 5] rfl ?_
          exact HJ62 h
        · have h := h.2 hb67
          refine z_lload C 4 d_n_step_60 rfl ?_
          refine z_aload_n C 1 d_n_step_62 rfl ?_
          refine z_iload_n C 3 d_n_step_63 rfl ?_
          refine z_iconst C d_n_step_64 ?_
          refine z_isub C d_n_step_65 ?_
          obtain ⟨hc68, h⟩ := h
          refine z_ialdN C (ln v) d_n_step_66 h_v rfl hc68 ?_
          obtain ⟨ok69, h⟩ := h
          refine z_i2l C d_n_step_67 ok69 ?_
          refine z_lmul C d_n_step_68 ?_
          refine z_lload C 5 d_n_step_69 rfl ?_
          refine z_bipush C d_n_step_71 (by decide) ?_
          refine z_lshlK C 16777216 d_n_step_73 (by decide) ⟨by decide, by decide⟩ ?_
          refine z_aload_n C 0 d_n_step_74 rfl ?_
          refine z_iload_n C 2 d_n_step_75 rfl ?_
          refine z_iload_n C 3 d_n_step_76 rfl ?_
          refine z_iadd C d_n_step_77 ?_
          refine z_iconst C d_n_step_78 ?_
          refine z_isub C d_n_step_79 ?_
          obtain ⟨hc70, h⟩ := h
          refine z_ialdN C (ln u) d_n_step_80 h_u rfl hc70 ?_
          obtain ⟨ok71, h⟩ := h
          refine z_i2l C d_n_step_81 ok71 ?_
          refine z_lor C d_n_step_82 ?_
          obtain ⟨ok72, h⟩ := h
          refine z_lcmp_le C d_n_step_83 d_n_step_84 ok72 (okL_or _ _) (fun hb73 => ?_) (fun hb73 => ?_)
          · have h := h.1 hb73
            refine z_sub [(0, .ref (zA G u)), (1, .ref (zA G v)), (2, .int (iI j)), (3, .int (iI n)), (6, .long (lL v6_16))] [0, 1, 2, 3, 4] rfl ?_
            exact HJ20 h
          · have h := h.2 hb73
            refine z_sub [(0, .ref (zA G u)), (1, .ref (zA G v)), (2, .int (iI j)), (3, .int (iI n)), (6, .long (lL v6_16)), (8, .long (lL v8_17))] [0, 1, 2, 3, 4, 5] rfl ?_
            exact HJ62 h
theorem d_n_quotient_0 : DD b_n_quotient 0 (.aload_n 2) 1 1 := ⟨by decide +kernel, rfl⟩
theorem d_n_quotient_1 : DD b_n_quotient 1 (.getfield 13) 3 4 := ⟨by decide +kernel, rfl⟩
theorem d_n_quotient_4 : DD b_n_quotient 4 (.istore 5) 2 6 := ⟨by decide +kernel, rfl⟩
theorem d_n_quotient_6 : DD b_n_quotient 6 (.aload_n 1) 1 7 := ⟨by decide +kernel, rfl⟩
theorem d_n_quotient_7 : DD b_n_quotient 7 (.getfield 13) 3 10 := ⟨by decide +kernel, rfl⟩
theorem d_n_quotient_10 : DD b_n_quotient 10 (.iload 5) 2 12 := ⟨by decide +kernel, rfl⟩
theorem d_n_quotient_12 : DD b_n_quotient 12 .isub 1 13 := ⟨by decide +kernel, rfl⟩
theorem d_n_quotient_13 : DD b_n_quotient 13 (.istore 6) 2 15 := ⟨by decide +kernel, rfl⟩
theorem d_n_quotient_15 : DD b_n_quotient 15 (.aload_n 1) 1 16 := ⟨by decide +kernel, rfl⟩
theorem d_n_quotient_16 : DD b_n_quotient 16 (.aload_n 2) 1 17 := ⟨by decide +kernel, rfl⟩
theorem d_n_quotient_17 : DD b_n_quotient 17 (.invokestatic 43) 3 20 := ⟨by decide +kernel, rfl⟩
theorem d_n_quotient_20 : DB b_n_quotient 20 (.ifCond .ge 15) 15 23 35 := ⟨by decide +kernel, rfl, rfl⟩
theorem d_n_quotient_23 : DD b_n_quotient 23 (.aload_n 3) 1 24 := ⟨by decide +kernel, rfl⟩
theorem d_n_quotient_24 : DD b_n_quotient 24 (.aload_n 1) 1 25 := ⟨by decide +kernel, rfl⟩
theorem d_n_quotient_25 : DD b_n_quotient 25 (.invokevirtual 62) 3 28 := ⟨by decide +kernel, rfl⟩
theorem d_n_quotient_28 : DD b_n_quotient 28 (.aload_n 0) 1 29 := ⟨by decide +kernel, rfl⟩
theorem d_n_quotient_29 : DD b_n_quotient 29 (.iconst 0) 1 30 := ⟨by decide +kernel, rfl⟩
theorem d_n_quotient_30 : DD b_n_quotient 30 (.iconst 0) 1 31 := ⟨by decide +kernel, rfl⟩
theorem d_n_quotient_31 : DD b_n_quotient 31 (.invokevirtual 22) 3 34 := ⟨by decide +kernel, rfl⟩
theorem d_n_quotient_34 : DD b_n_quotient 34 .return_ 1 35 := ⟨by decide +kernel, rfl⟩
theorem d_n_quotient_35 : DD b_n_quotient 35 (.iload 5) 2 37 := ⟨by decide +kernel, rfl⟩
theorem d_n_quotient_37 : DD b_n_quotient 37 (.iconst 1) 1 38 := ⟨by decide +kernel, rfl⟩
theorem d_n_quotient_38 : DB b_n_quotient 38 (.if_icmp .ne 107) 107 41 145 := ⟨by decide +kernel, rfl, rfl⟩
theorem d_n_quotient_41 : DD b_n_quotient 41 (.lconst 0) 1 42 := ⟨by decide +kernel, rfl⟩
theorem d_n_quotient_42 : DD b_n_quotient 42 (.lstore 7) 2 44 := ⟨by decide +kernel, rfl⟩
theorem d_n_quotient_44 : DD b_n_quotient 44 (.aload_n 2) 1 45 := ⟨by decide +kernel, rfl⟩
theorem d_n_quotient_45 : DD b_n_quotient 45 (.getfield 9) 3 48 := ⟨by decide +kernel, rfl⟩
theorem d_n_quotient_48 : DD b_n_quotient 48 (.iconst 0) 1 49 := ⟨by decide +kernel, rfl⟩
theorem d_n_quotient_49 : DD b_n_quotient 49 .iaload 1 50 := ⟨by decide +kernel, rfl⟩
theorem d_n_quotient_50 : DD b_n_quotient 50 .i2l 1 51 := ⟨by decide +kernel, rfl⟩
theorem d_n_quotient_51 : DD b_n_quotient 51 (.lstore 9) 2 53 := ⟨by decide +kernel, rfl⟩
theorem d_n_quotient_53 : DD b_n_quotient 53 (.aload_n 1) 1 54 := ⟨by decide +kernel, rfl⟩
theorem d_n_quotient_54 : DD b_n_quotient 54 (.getfield 13) 3 57 := ⟨by decide +kernel, rfl⟩
theorem d_n_quotient_57 : DD b_n_quotient 57 (.iconst 1) 1 58 := ⟨by decide +kernel, rfl⟩
theorem d_n_quotient_58 : DD b_n_quotient 58 .isub 1 59 := ⟨by decide +kernel, rfl⟩
theorem d_n_quotient_59 : DD b_n_quotient 59 (.istore 11) 2 61 := ⟨by decide +kernel, rfl⟩
theorem d_n_quotient_61 : DD b_n_quotient 61 (.iload 11) 2 63 := ⟨by decide +kernel, rfl⟩
theorem d_n_quotient_63 : DB b_n_quotient 63 (.ifCond .lt 45) 45 66 108 := ⟨by decide +kernel, rfl, rfl⟩
theorem d_n_quotient_66 : DD b_n_quotient 66 (.lload 7) 2 68 := ⟨by decide +kernel, rfl⟩
theorem d_n_quotient_68 : DD b_n_quotient 68 (.bipush 24) 2 70 := ⟨by decide +kernel, rfl⟩
theorem d_n_quotient_70 : DD b_n_quotient 70 .lshl 1 71 := ⟨by decide +kernel, rfl⟩
theorem d_n_quotient_71 : DD b_n_quotient 71 (.aload_n 1) 1 72 := ⟨by decide +kernel, rfl⟩
theorem d_n_quotient_72 : DD b_n_quotient 72 (.getfield 9) 3 75 := ⟨by decide +kernel, rfl⟩
theorem d_n_quotient_75 : DD b_n_quotient 75 (.iload 11) 2 77 := ⟨by decide +kernel, rfl⟩
theorem d_n_quotient_77 : DD b_n_quotient 77 .iaload 1 78 := ⟨by decide +kernel, rfl⟩
theorem d_n_quotient_78 : DD b_n_quotient 78 .i2l 1 79 := ⟨by decide +kernel, rfl⟩
theorem d_n_quotient_79 : DD b_n_quotient 79 .lor 1 80 := ⟨by decide +kernel, rfl⟩
theorem d_n_quotient_80 : DD b_n_quotient 80 (.lstore 12) 2 82 := ⟨by decide +kernel, rfl⟩
theorem d_n_quotient_82 : DD b_n_quotient 82 (.aload_n 0) 1 83 := ⟨by decide +kernel, rfl⟩
theorem d_n_quotient_83 : DD b_n_quotient 83 (.getfield 9) 3 86 := ⟨by decide +kernel, rfl⟩
theorem d_n_quotient_86 : DD b_n_quotient 86 (.iload 11) 2 88 := ⟨by decide +kernel, rfl⟩
theorem d_n_quotient_88 : DD b_n_quotient 88 (.lload 12) 2 90 := ⟨by decide +kernel, rfl⟩
theorem d_n_quotient_90 : DD b_n_quotient 90 (.lload 9) 2 92 := ⟨by decide +kernel, rfl⟩
theorem d_n_quotient_92 : DD b_n_quotient 92 .ldiv 1 93 := ⟨by decide +kernel, rfl⟩
theorem d_n_quotient_93 : DD b_n_quotient 93 .l2i 1 94 := ⟨by decide +kernel, rfl⟩
theorem d_n_quotient_94 : DD b_n_quotient 94 .iastore 1 95 := ⟨by decide +kernel, rfl⟩
theorem d_n_quotient_95 : DD b_n_quotient 95 (.lload 12) 2 97 := ⟨by decide +kernel, rfl⟩
theorem d_n_quotient_97 : DD b_n_quotient 97 (.lload 9) 2 99 := ⟨by decide +kernel, rfl⟩
theorem d_n_quotient_99 : DD b_n_quotient 99 .lrem 1 100 := ⟨by decide +kernel, rfl⟩
theorem d_n_quotient_100 : DD b_n_quotient 100 (.lstore 7) 2 102 := ⟨by decide +kernel, rfl⟩
theorem d_n_quotient_102 : DD b_n_quotient 102 (.iinc 11 (-1)) 3 105 := ⟨by decide +kernel, rfl⟩
theorem d_n_quotient_105 : DB b_n_quotient 105 (.goto (-44)) (-44) 108 61 := ⟨by decide +kernel, rfl, rfl⟩
theorem d_n_quotient_108 : DD b_n_quotient 108 (.aload_n 0) 1 109 := ⟨by decide +kernel, rfl⟩
theorem d_n_quotient_109 : DD b_n_quotient 109 (.aload_n 1) 1 110 := ⟨by decide +kernel, rfl⟩
theorem d_n_quotient_110 : DD b_n_quotient 110 (.getfield 13) 3 113 := ⟨by decide +kernel, rfl⟩
theorem d_n_quotient_113 : DD b_n_quotient 113 (.aload_n 1) 1 114 := ⟨by decide +kernel, rfl⟩
theorem d_n_quotient_114 : DD b_n_quotient 114 (.getfield 17) 3 117 := ⟨by decide +kernel, rfl⟩
theorem d_n_quotient_117 : DD b_n_quotient 117 (.aload_n 2) 1 118 := ⟨by decide +kernel, rfl⟩
theorem d_n_quotient_118 : DD b_n_quotient 118 (.getfield 17) 3 121 := ⟨by decide +kernel, rfl⟩
theorem d_n_quotient_121 : DD b_n_quotient 121 .imul 1 122 := ⟨by decide +kernel, rfl⟩
theorem d_n_quotient_122 : DD b_n_quotient 122 (.invokevirtual 22) 3 125 := ⟨by decide +kernel, rfl⟩
theorem d_n_quotient_125 : DD b_n_quotient 125 (.aload_n 3) 1 126 := ⟨by decide +kernel, rfl⟩
theorem d_n_quotient_126 : DD b_n_quotient 126 (.aload_n 1) 1 127 := ⟨by decide +kernel, rfl⟩
theorem d_n_quotient_127 : DD b_n_quotient 127 (.getfield 17) 3 130 := ⟨by decide +kernel, rfl⟩
theorem d_n_quotient_130 : DB b_n_quotient 130 (.ifCond .ge 9) 9 133 139 := ⟨by decide +kernel, rfl, rfl⟩
theorem d_n_quotient_133 : DD b_n_quotient 133 (.lload 7) 2 135 := ⟨by decide +kernel, rfl⟩
theorem d_n_quotient_135 : DD b_n_quotient 135 .lneg 1 136 := ⟨by decide +kernel, rfl⟩
theorem d_n_quotient_136 : DB b_n_quotient 136 (.goto 5) 5 139 141 := ⟨by decide +kernel, rfl, rfl⟩
theorem d_n_quotient_139 : DD b_n_quotient 139 (.lload 7) 2 141 := ⟨by decide +kernel, rfl⟩
theorem d_n_quotient_141 : DD b_n_quotient 141 (.invokevirtual 66) 3 144 := ⟨by decide +kernel, rfl⟩
theorem d_n_quotient_144 : DD b_n_quotient 144 .return_ 1 145 := ⟨by decide +kernel, rfl⟩
theorem d_n_quotient_145 : DD b_n_quotient 145 (.aload_n 2) 1 146 := ⟨by decide +kernel, rfl⟩
theorem d_n_quotient_146 : DD b_n_quotient 146 (.getfield 9) 3 149 := ⟨by decide +kernel, rfl⟩
theorem d_n_quotient_149 : DD b_n_quotient 149 (.iload 5) 2 151 := ⟨by decide +kernel, rfl⟩
theorem d_n_quotient_151 : DD b_n_quotient 151 (.iconst 1) 1 152 := ⟨by decide +kernel, rfl⟩
theorem d_n_quotient_152 : DD b_n_quotient 152 .isub 1 153 := ⟨by decide +kernel, rfl⟩
theorem d_n_quotient_153 : DD b_n_quotient 153 .iaload 1 154 := ⟨by decide +kernel, rfl⟩
theorem d_n_quotient_154 : DD b_n_quotient 154 (.invokestatic 37) 3 157 := ⟨by decide +kernel, rfl⟩
theorem d_n_quotient_157 : DD b_n_quotient 157 (.bipush 8) 2 159 := ⟨by decide +kernel, rfl⟩
theorem d_n_quotient_159 : DD b_n_quotient 159 .isub 1 160 := ⟨by decide +kernel, rfl⟩
theorem d_n_quotient_160 : DD b_n_quotient 160 (.istore 7) 2 162 := ⟨by decide +kernel, rfl⟩
theorem d_n_quotient_162 : DD b_n_quotient 162 (.aload 4) 2 164 := ⟨by decide +kernel, rfl⟩
theorem d_n_quotient_164 : DD b_n_quotient 164 (.aload_n 2) 1 165 := ⟨by decide +kernel, rfl⟩
theorem d_n_quotient_165 : DD b_n_quotient 165 (.iload 7) 2 167 := ⟨by decide +kernel, rfl⟩
theorem d_n_quotient_167 : DD b_n_quotient 167 (.invokevirtual 70) 3 170 := ⟨by decide +kernel, rfl⟩
theorem d_n_quotient_170 : DD b_n_quotient 170 (.aload_n 3) 1 171 := ⟨by decide +kernel, rfl⟩
theorem d_n_quotient_171 : DD b_n_quotient 171 (.aload_n 1) 1 172 := ⟨by decide +kernel, rfl⟩
theorem d_n_quotient_172 : DD b_n_quotient 172 (.iload 7) 2 174 := ⟨by decide +kernel, rfl⟩
theorem d_n_quotient_174 : DD b_n_quotient 174 (.invokevirtual 70) 3 177 := ⟨by decide +kernel, rfl⟩
theorem d_n_quotient_177 : DD b_n_quotient 177 (.aload_n 3) 1 178 := ⟨by decide +kernel, rfl⟩
theorem d_n_quotient_178 : DD b_n_quotient 178 (.getfield 13) 3 181 := ⟨by decide +kernel, rfl⟩
theorem d_n_quotient_181 : DD b_n_quotient 181 (.istore 8) 2 183 := ⟨by decide +kernel, rfl⟩
theorem d_n_quotient_183 : DD b_n_quotient 183 (.iload 8) 2 185 := ⟨by decide +kernel, rfl⟩
theorem d_n_quotient_185 : DD b_n_quotient 185 (.aload_n 1) 1 186 := ⟨by decide +kernel, rfl⟩
theorem d_n_quotient_186 : DD b_n_quotient 186 (.getfield 13) 3 189 := ⟨by decide +kernel, rfl⟩
theorem d_n_quotient_189 : DB b_n_quotient 189 (.if_icmp .gt 17) 17 192 206 := ⟨by decide +kernel, rfl, rfl⟩
theorem d_n_quotient_192 : DD b_n_quotient 192 (.aload_n 3) 1 193 := ⟨by decide +kernel, rfl⟩
theorem d_n_quotient_193 : DD b_n_quotient 193 (.getfield 9) 3 196 := ⟨by decide +kernel, rfl⟩
theorem d_n_quotient_196 : DD b_n_quotient 196 (.iload 8) 2 198 := ⟨by decide +kernel, rfl⟩
theorem d_n_quotient_198 : DD b_n_quotient 198 (.iconst 0) 1 199 := ⟨by decide +kernel, rfl⟩
theorem d_n_quotient_199 : DD b_n_quotient 199 .iastore 1 200 := ⟨by decide +kernel, rfl⟩
theorem d_n_quotient_200 : DD b_n_quotient 200 (.iinc 8 1) 3 203 := ⟨by decide +kernel, rfl⟩
theorem d_n_quotient_203 : DB b_n_quotient 203 (.goto (-20)) (-20) 206 183 := ⟨by decide +kernel, rfl, rfl⟩
theorem d_n_quotient_206 : DD b_n_quotient 206 (.iload 6) 2 208 := ⟨by decide +kernel, rfl⟩
theorem d_n_quotient_208 : DD b_n_quotient 208 (.istore 8) 2 210 := ⟨by decide +kernel, rfl⟩
theorem d_n_quotient_210 : DD b_n_quotient 210 (.iload 8) 2 212 := ⟨by decide +kernel, rfl⟩
theorem d_n_quotient_212 : DB b_n_quotient 212 (.ifCond .lt 32) 32 215 244 := ⟨by decide +kernel, rfl, rfl⟩
theorem d_n_quotient_215 : DD b_n_quotient 215 (.aload_n 0) 1 216 := ⟨by decide +kernel, rfl⟩
theorem d_n_quotient_216 : DD b_n_quotient 216 (.getfield 9) 3 219 := ⟨by decide +kernel, rfl⟩
theorem d_n_quotient_219 : DD b_n_quotient 219 (.iload 8) 2 221 := ⟨by decide +kernel, rfl⟩
theorem d_n_quotient_221 : DD b_n_quotient 221 (.aload_n 3) 1 222 := ⟨by decide +kernel, rfl⟩
theorem d_n_quotient_222 : DD b_n_quotient 222 (.getfield 9) 3 225 := ⟨by decide +kernel, rfl⟩
theorem d_n_quotient_225 : DD b_n_quotient 225 (.aload 4) 2 227 := ⟨by decide +kernel, rfl⟩
theorem d_n_quotient_227 : DD b_n_quotient 227 (.getfield 9) 3 230 := ⟨by decide +kernel, rfl⟩
theorem d_n_quotient_230 : DD b_n_quotient 230 (.iload 8) 2 232 := ⟨by decide +kernel, rfl⟩
theorem d_n_quotient_232 : DD b_n_quotient 232 (.iload 5) 2 234 := ⟨by decide +kernel, rfl⟩
theorem d_n_quotient_234 : DD b_n_quotient 234 (.invokestatic 74) 3 237 := ⟨by decide +kernel, rfl⟩
theorem d_n_quotient_237 : DD b_n_quotient 237 .iastore 1 238 := ⟨by decide +kernel, rfl⟩
theorem d_n_quotient_238 : DD b_n_quotient 238 (.iinc 8 (-1)) 3 241 := ⟨by decide +kernel, rfl⟩
theorem d_n_quotient_241 : DB b_n_quotient 241 (.goto (-31)) (-31) 244 210 := ⟨by decide +kernel, rfl, rfl⟩
theorem d_n_quotient_244 : DD b_n_quotient 244 (.aload_n 0) 1 245 := ⟨by decide +kernel, rfl⟩
theorem d_n_quotient_245 : DD b_n_quotient 245 (.iload 6) 2 247 := ⟨by decide +kernel, rfl⟩
theorem d_n_quotient_247 : DD b_n_quotient 247 (.iconst 1) 1 248 := ⟨by decide +kernel, rfl⟩
theorem d_n_quotient_248 : DD b_n_quotient 248 .iadd 1 249 := ⟨by decide +kernel, rfl⟩
theorem d_n_quotient_249 : DD b_n_quotient 249 (.aload_n 1) 1 250 := ⟨by decide +kernel, rfl⟩
theorem d_n_quotient_250 : DD b_n_quotient 250 (.getfield 17) 3 253 := ⟨by decide +kernel, rfl⟩
theorem d_n_quotient_253 : DD b_n_quotient 253 (.aload_n 2) 1 254 := ⟨by decide +kernel, rfl⟩
theorem d_n_quotient_254 : DD b_n_quotient 254 (.getfield 17) 3 257 := ⟨by decide +kernel, rfl⟩
theorem d_n_quotient_257 : DD b_n_quotient 257 .imul 1 258 := ⟨by decide +kernel, rfl⟩
theorem d_n_quotient_258 : DD b_n_quotient 258 (.invokevirtual 22) 3 261 := ⟨by decide +kernel, rfl⟩
theorem d_n_quotient_261 : DD b_n_quotient 261 (.aload_n 3) 1 262 := ⟨by decide +kernel, rfl⟩
theorem d_n_quotient_262 : DD b_n_quotient 262 (.iload 5) 2 264 := ⟨by decide +kernel, rfl⟩
theorem d_n_quotient_264 : DD b_n_quotient 264 (.iconst 1) 1 265 := ⟨by decide +kernel, rfl⟩
theorem d_n_quotient_265 : DD b_n_quotient 265 (.invokevirtual 22) 3 268 := ⟨by decide +kernel, rfl⟩
theorem d_n_quotient_268 : DD b_n_quotient 268 (.aload_n 3) 1 269 := ⟨by decide +kernel, rfl⟩
theorem d_n_quotient_269 : DD b_n_quotient 269 (.aload_n 3) 1 270 := ⟨by decide +kernel, rfl⟩
theorem d_n_quotient_270 : DD b_n_quotient 270 (.iload 7) 2 272 := ⟨by decide +kernel, rfl⟩
theorem d_n_quotient_272 : DD b_n_quotient 272 (.invokevirtual 78) 3 275 := ⟨by decide +kernel, rfl⟩
theorem d_n_quotient_275 : DD b_n_quotient 275 (.aload_n 3) 1 276 := ⟨by decide +kernel, rfl⟩
theorem d_n_quotient_276 : DD b_n_quotient 276 (.getfield 13) 3 279 := ⟨by decide +kernel, rfl⟩
theorem d_n_quotient_279 : DB b_n_quotient 279 (.ifCond .le 11) 11 282 290 := ⟨by decide +kernel, rfl, rfl⟩
theorem d_n_quotient_282 : DD b_n_quotient 282 (.aload_n 3) 1 283 := ⟨by decide +kernel, rfl⟩
theorem d_n_quotient_283 : DD b_n_quotient 283 (.aload_n 1) 1 284 := ⟨by decide +kernel, rfl⟩
theorem d_n_quotient_284 : DD b_n_quotient 284 (.getfield 17) 3 287 := ⟨by decide +kernel, rfl⟩
theorem d_n_quotient_287 : DD b_n_quotient 287 (.putfield 17) 3 290 := ⟨by decide +kernel, rfl⟩
theorem d_n_quotient_290 : DD b_n_quotient 290 .return_ 1 291 := ⟨by decide +kernel, rfl⟩
set_option maxRecDepth 20000 in
set_option maxHeartbeats 4000000 in
theorem c_n_quotient (l : Launch) (G : ZG) {t a b rest work : Int} {σ : Mem} {K : Mem → Prop} (h : wp_n_quotient t a b rest work σ K) (h_t : isN t) (h_a : isN a) (h_b : isN b) (h_rest : isN rest) (h_work : isN work) : Ct l G y_n_quotient (.code y_n_quotient b_n_quotient 14 none) { frames := 2, cells := 0, slots := 0, locals := 50 } 0 0 0 [.ref (zA G t), .ref (zA G a), .ref (zA G b), .ref (zA G rest), .ref (zA G work)] σ (fun _ σ1 => K σ1) (fun _ _ => False) := by
  unfold wp_n_quotient at h
  refine Ct.ofZ [(0, .ref (zA G t)), (1, .ref (zA G a)), (2, .ref (zA G b)), (3, .ref (zA G rest)), (4, .ref (zA G work))] "LimbDesk$Num" (by decide) rfl (Nat.le_of_ble_eq_true rfl) rfl ?_
  intro E hR hlE C hr hX
  subst hlE
  have hroom_jI_nlz : 0 + 1 ≤ (zR E).frames ∧ 8 + (2 + 11) + 0 ≤ (zR E).locals ∧ 0 + 0 ≤ (zR E).cells ∧ 0 + 0 ≤ (zR E).slots := by rw [hR]; decide
  have hroom_n_left : 1 + 1 ≤ (zR E).frames ∧ 8 + (9 + 11) + 22 ≤ (zR E).locals ∧ 0 + 0 ≤ (zR E).cells ∧ 0 + 0 ≤ (zR E).slots := by rw [hR]; decide
  have hroom_n_limbs : 0 + 1 ≤ (zR E).frames ∧ 8 + (3 + 11) + 0 ≤ (zR E).locals ∧ 0 + 0 ≤ (zR E).cells ∧ 0 + 0 ≤ (zR E).slots := by rw [hR]; decide
  have hroom_n_right : 1 + 1 ≤ (zR E).frames ∧ 8 + (9 + 11) + 22 ≤ (zR E).locals ∧ 0 + 0 ≤ (zR E).cells ∧ 0 + 0 ≤ (zR E).slots := by rw [hR]; decide
  have hroom_n_set : 1 + 1 ≤ (zR E).frames ∧ 8 + (6 + 11) + 22 ≤ (zR E).locals ∧ 0 + 0 ≤ (zR E).cells ∧ 0 + 0 ≤ (zR E).slots := by rw [hR]; decide
  have hroom_n_step : 0 + 1 ≤ (zR E).frames ∧ 8 + (17 + 11) + 0 ≤ (zR E).locals ∧ 0 + 0 ≤ (zR E).cells ∧ 0 + 0 ≤ (zR E).slots := by rw [hR]; decide
  have hroom_n_take : 0 + 1 ≤ (zR E).frames ∧ 8 + (3 + 11) + 0 ≤ (zR E).locals ∧ 0 + 0 ≤ (zR E).cells ∧ 0 + 0 ≤ (zR E).slots := by rw [hR]; decide
  have hroom_n_trim : 0 + 1 ≤ (zR E).frames ∧ 8 + (3 + 11) + 0 ≤ (zR E).locals ∧ 0 + 0 ≤ (zR E).cells ∧ 0 + 0 ≤ (zR E).slots := by rw [hR]; decide
  clear hR
  obtain ⟨Q, hQ⟩ : ∃ Q, Q = MQX G (zb E) 0 (fun _ σ1 => K σ1) (fun _ _ => False) (zs E) 0 0 0 0 := ⟨_, rfl⟩
  show Z E G 14 0 0 (MQX G (zb E) 0 (fun _ σ1 => K σ1) (fun _ _ => False) (zs E) 0 0 0 0) σ 0 [(0, .ref (zA G t)), (1, .ref (zA G a)), (2, .ref (zA G b)), (3, .ref (zA G rest)), (4, .ref (zA G work))] []
  rw [← hQ]
  refine z_aload_n C 2 d_n_quotient_0 rfl ?_
  refine z_nget_n C d_n_quotient_1 k_32 h_b ?_
  refine z_namei (fun v5_1 e2 => ?_)
  have h := h v5_1 e2
  refine z_istore C [(5, .int (iI v5_1)), (0, .ref (zA G t)), (1, .ref (zA G a)), (2, .ref (zA G b)), (3, .ref (zA G rest)), (4, .ref (zA G work))] d_n_quotient_4 (by decide) rfl ?_
  refine z_aload_n C 2 d_n_quotient_6 rfl ?_
  refine z_nget_n C d_n_quotient_7 k_32 h_a ?_
  refine z_iload C 0 d_n_quotient_10 rfl ?_
  refine z_isub C d_n_quotient_12 ?_
  refine z_namei (fun v6_3 e4 => ?_)
  have h := h v6_3 e4
  refine z_istore C [(6, .int (iI v6_3)), (5, .int (iI v5_1)), (0, .ref (zA G t)), (1, .ref (zA G a)), (2, .ref (zA G b)), (3, .ref (zA G rest)), (4, .ref (zA G work))] d_n_quotient_13 (by decide) rfl ?_
  refine z_aload_n C 3 d_n_quotient_15 rfl ?_
  refine z_aload_n C 4 d_n_quotient_16 rfl ?_
  refine z_callS C [.ref (zA G a), .ref (zA G b)] [] 2 d_n_quotient_17 (c_n_limbs (zl E) G h h_a h_b) k_308 k_306 k_307 k_2 (by decide)  (by decide +kernel) rfl rfl (Nat.le_of_ble_eq_true rfl) hroom_n_limbs (fun r5 _s92 ok6 hq => ?_) (fun _ _ hx => hx.elim)
  obtain ⟨hs_, hk_⟩ := hq
  subst hs_
  have h := hk_
  refine z_if_ge C d_n_quotient_20 ok6 (fun hb7 => ?_) (fun hb7 => ?_)
  · have h := h.1 hb7
    refine z_iload C 1 d_n_quotient_35 rfl ?_
    refine z_iconst C d_n_quotient_37 ?_
    obtain ⟨ok8, h⟩ := h
    refine z_icmp_ne C d_n_quotient_38 ok8 (okI_lit rfl) (fun hb9 => ?_) (fun hb9 => ?_)
    · have h := h.1 hb9
      refine z_aload_n C 4 d_n_quotient_145 rfl ?_
      refine z_nget_d C d_n_quotient_146 k_30 h_b ?_
      refine z_iload C 1 d_n_quotient_149 rfl ?_
      refine z_iconst C d_n_quotient_151 ?_
      refine z_isub C d_n_quotient_152 ?_
      obtain ⟨hc10, h⟩ := h
      refine z_ialdN C (600) d_n_quotient_153 (isN.A h_b) (ln_num h_b) hc10 ?_
      obtain ⟨ok11, h⟩ := h
      refine z_callS C [.int (iI (σ (21 + b) (v5_1 - 1)))] [] 1 d_n_quotient_154 (c_jI_nlz (zl E) G h ok11) k_158 k_156 k_157 k_8 (by decide)  (by decide +kernel) rfl rfl (Nat.le_of_ble_eq_true rfl) hroom_jI_nlz (fun r12 _s53 ok13 hq => ?_) (fun _ _ hx => hx.elim)
      obtain ⟨hs_, hk_⟩ := hq
      subst hs_
      have h := hk_
      refine z_bipush C d_n_quotient_157 (by decide) ?_
      refine z_isub C d_n_quotient_159 ?_
      refine z_namei (fun v7_14 e15 => ?_)
      have h := h v7_14 e15
      refine z_istore C [(7, .int (iI v7_14)), (6, .int (iI v6_3)), (5, .int (iI v5_1)), (0, .ref (zA G t)), (1, .ref (zA G a)), (2, .ref (zA G b)), (3, .ref (zA G rest)), (4, .ref (zA G work))] d_n_quotient_160 (by decide) rfl ?_
      refine z_aload C 7 d_n_quotient_162 rfl ?_
      refine z_aload_n C 5 d_n_quotient_164 rfl ?_
      refine z_iload C 0 d_n_quotient_165 rfl ?_
      obtain ⟨ok16, h⟩ := h
      refine z_callV C "LimbDesk$Num" [.ref (zA G b), .int (iI v7_14)] [] 2 d_n_quotient_167 (c_n_left (zl E) G h h_work h_b ok16) k_337 k_334 k_335 k_336 k_2 (by decide) (recv_N C h_work) (by decide +kernel) rfl rfl (Nat.le_of_ble_eq_true rfl) hroom_n_left (fun _r σ17 ok18 hq => ?_) (fun _ _ hx => hx.elim)
      have h := hq
      refine z_aload_n C 6 d_n_quotient_170 rfl ?_
      refine z_aload_n C 4 d_n_quotient_171 rfl ?_
      refine z_iload C 0 d_n_quotient_172 rfl ?_
      refine z_callV C "LimbDesk$Num" [.ref (zA G a), .int (iI v7_14)] [] 2 d_n_quotient_174 (c_n_left (zl E) G h h_rest h_a ok16) k_337 k_334 k_335 k_336 k_2 (by decide) (recv_N C h_rest) (by decide +kernel) rfl rfl (Nat.le_of_ble_eq_true rfl) hroom_n_left (fun _r σ19 ok20 hq => ?_) (fun _ _ hx => hx.elim)
      have h := hq
      refine z_aload_n C 6 d_n_quotient_177 rfl ?_
      refine z_nget_n C d_n_quotient_178 k_32 h_rest ?_
      refine z_namei (fun v8_21 e22 => ?_)
      have h := h v8_21 e22
      refine z_istore C [(8, .int (iI v8_21)), (7, .int (iI v7_14)), (6, .int (iI v6_3)), (5, .int (iI v5_1)), (0, .ref (zA G t)), (1, .ref (zA G a)), (2, .ref (zA G b)), (3, .ref (zA G rest)), (4, .ref (zA G work))] d_n_quotient_181 (by decide) rfl ?_
      obtain ⟨ok24, h⟩ := h
      refine z_sub [(0, .ref (zA G t)), (1, .ref (zA G a)), (2, .ref (zA G b)), (3, .ref (zA G rest)), (4, .ref (zA G work)), (5, .int (iI v5_1)), (6, .int (iI v6_3)), (7, .int (iI v7_14)), (8, .int (iI v8_21))] [4, 5, 6, 7, 8, 3, 2, 1, 0] rfl ?_
      refine (Lo1.walk (P := fun v8_23 σ25 => okI v8_23 → Z E G 14 0 0 Q σ25 183 [(0, .ref (zA G t)), (1, .ref (zA G a)), (2, .ref (zA G b)), (3, .ref (zA G rest)), (4, .ref (zA G work)), (5, .int (iI v5_1)), (6, .int (iI v6_3)), (7, .int (iI v7_14)), (8, .int (iI v8_23))] []) ?_ h) ok24
      intro v8_23 σ25 again27 Hagain27 h ok26
      refine z_iload C 8 d_n_quotient_183 rfl ?_
      refine z_aload_n C 1 d_n_quotient_185 rfl ?_
      refine z_nget_n C d_n_quotient_186 k_32 h_a ?_
      obtain ⟨ok28, h⟩ := h
      refine z_icmp_gt C d_n_quotient_189 ok26 ok28 (fun hb29 => ?_) (fun hb29 => ?_)
      · have h := h.1 hb29
        refine z_iload C 6 d_n_quotient_206 rfl ?_
        refine z_istore C [(8, .int (iI v6_3)), (0, .ref (zA G t)), (1, .ref (zA G a)), (2, .ref (zA G b)), (3, .ref (zA G rest)), (4, .ref (zA G work)), (5, .int (iI v5_1)), (6, .int (iI v6_3)), (7, .int (iI v7_14))] d_n_quotient_208 (by decide) rfl ?_
        obtain ⟨ok31, h⟩ := h
        refine z_sub [(0, .ref (zA G t)), (1, .ref (zA G a)), (2, .ref (zA G b)), (3, .ref (zA G rest)), (4, .ref (zA G work)), (5, .int (iI v5_1)), (6, .int (iI v6_3)), (7, .int (iI v7_14)), (8, .int (iI v6_3))] [1, 2, 3, 4, 5, 6, 7, 8, 0] rfl ?_
        refine (Lo1.walk (P := fun v8_30 σ32 => okI v8_30 → Z E G 14 0 0 Q σ32 210 [(0, .ref (zA G t)), (1, .ref (zA G a)), (2, .ref (zA G b)), (3, .ref (zA G rest)), (4, .ref (zA G work)), (5, .int (iI v5_1)), (6, .int (iI v6_3)), (7, .int (iI v7_14)), (8, .int (iI v8_30))] []) ?_ h) ok31
        intro v8_30 σ32 again34 Hagain34 h ok33
        refine z_iload C 8 d_n_quotient_210 rfl ?_
        refine z_if_lt C d_n_quotient_212 ok33 (fun hb35 => ?_) (fun hb35 => ?_)
        · have h := h.1 hb35
          refine z_aload_n C 0 d_n_quotient_244 rfl ?_
          refine z_iload C 6 d_n_quotient_245 rfl ?_
          refine z_iconst C d_n_quotient_247 ?_
          refine z_iadd C d_n_quotient_248 ?_
          refine z_aload_n C 1 d_n_quotient_249 rfl ?_
          refine z_nget_sign C d_n_quotient_250 k_33 h_a ?_
          refine z_aload_n C 2 d_n_quotient_253 rfl ?_
          refine z_nget_sign C d_n_quotient_254 k_33 h_b ?_
          refine z_imul C d_n_quotient_257 ?_
          obtain ⟨ok36, h⟩ := h
          obtain ⟨ok37, h⟩ := h
          refine z_callV C "LimbDesk$Num" [.int (iI (v6_3 + 1)), .int (iI ((σ32 a 2) * (σ32 b 2)))] [] 2 d_n_quotient_258 (c_n_trim (zl E) G h h_t ok36 ok37) k_168 k_165 k_167 k_s2 k_2 (by decide) (recv_N C h_t) (by decide +kernel) rfl rfl (Nat.le_of_ble_eq_true rfl) hroom_n_trim (fun _r σ38 ok39 hq => ?_) (fun _ _ hx => hx.elim)
          have h := hq
          refine z_aload_n C 3 d_n_quotient_261 rfl ?_
          refine z_iload C 5 d_n_quotient_262 rfl ?_
          refine z_iconst C d_n_quotient_264 ?_
          refine z_callV C "LimbDesk$Num" [.int (iI v5_1), .int (iI 1)] [] 2 d_n_quotient_265 (c_n_trim (zl E) G h h_rest ok8 (okI_lit rfl)) k_168 k_165 k_167 k_s2 k_2 (by decide) (recv_N C h_rest) (by decide +kernel) rfl rfl (Nat.le_of_ble_eq_true rfl) hroom_n_trim (fun _r σ40 ok41 hq => ?_) (fun _ _ hx => hx.elim)
          have h := hq
          refine z_aload_n C 3 d_n_quotient_268 rfl ?_
          refine z_aload_n C 3 d_n_quotient_269 rfl ?_
          refine z_iload C 7 d_n_quotient_270 rfl ?_
          refine z_callV C "LimbDesk$Num" [.ref (zA G rest), .int (iI v7_14)] [] 2 d_n_quotient_272 (c_n_right (zl E) G h h_rest h_rest ok16) k_344 k_341 k_342 k_343 k_2 (by decide) (recv_N C h_rest) (by decide +kernel) rfl rfl (Nat.le_of_ble_eq_true rfl) hroom_n_right (fun _r σ42 ok43 hq => ?_) (fun _ _ hx => hx.elim)
          have h := hq
          refine z_aload_n C 3 d_n_quotient_275 rfl ?_
          refine z_nget_n C d_n_quotient_276 k_32 h_rest ?_
          obtain ⟨ok44, h⟩ := h
          refine z_if_le C d_n_quotient_279 ok44 (fun hb45 => ?_) (fun hb45 => ?_)
          · have h := h.1 hb45
            subst hQ
            exact z_return C d_n_quotient_290.1 hr ⟨Nat.zero_le _, Nat.zero_le _⟩ h
          · have h := h.2 hb45
            refine z_aload_n C 3 d_n_quotient_282 rfl ?_
            refine z_aload_n C 1 d_n_quotient_283 rfl ?_
            refine z_nget_sign C d_n_quotient_284 k_33 h_a ?_
            refine z_nput_sign C d_n_quotient_287 k_33 h_rest ?_
            subst hQ
            exact z_return C d_n_quotient_290.1 hr ⟨Nat.zero_le _, Nat.zero_le _⟩ h
        · have h := h.2 hb35
          refine z_aload_n C 0 d_n_quotient_215 rfl ?_
          refine z_nget_d C d_n_quotient_216 k_30 h_t ?_
          refine z_iload C 8 d_n_quotient_219 rfl ?_
          refine z_aload_n C 3 d_n_quotient_221 rfl ?_
          refine z_nget_d C d_n_quotient_222 k_30 h_rest ?_
          refine z_aload C 4 d_n_quotient_225 rfl ?_
          refine z_nget_d C d_n_quotient_227 k_30 h_work ?_
          refine z_iload C 8 d_n_quotient_230 rfl ?_
          refine z_iload C 5 d_n_quotient_232 rfl ?_
          refine z_callS C [.ref (zA G (21 + rest)), .ref (zA G (21 + work)), .int (iI v8_30), .int (iI v5_1)] [.int (iI v8_30), .ref (zA G (21 + t))] 4 d_n_quotient_234 (c_n_step (zl E) G h (isN.A h_rest) (isN.A h_work) ok33 ok8) k_340 k_338 k_339 k_2 (by decide)  (by decide +kernel) rfl rfl (Nat.le_of_ble_eq_true rfl) hroom_n_step (fun r46 σ47 ok48 hq => ?_) (fun _ _ hx => hx.elim)
          have h := hq
          obtain ⟨hc49, h⟩ := h
          refine z_iastN C (600) d_n_quotient_237 (isN.A h_t) (ln_num h_t) hc49 ?_
          refine z_iinc C 8 [(8, .int (iI (v8_30 + (-1)))), (0, .ref (zA G t)), (1, .ref (zA G a)), (2, .ref (zA G b)), (3, .ref (zA G rest)), (4, .ref (zA G work)), (5, .int (iI v5_1)), (6, .int (iI v6_3)), (7, .int (iI v7_14))] d_n_quotient_238 rfl (by decide) rfl ?_
          refine z_goto C d_n_quotient_241 ?_
          obtain ⟨ok50, h⟩ := h
          refine z_sub [(0, .ref (zA G t)), (1, .ref (zA G a)), (2, .ref (zA G b)), (3, .ref (zA G rest)), (4, .ref (zA G work)), (5, .int (iI v5_1)), (6, .int (iI v6_3)), (7, .int (iI v7_14)), (8, .int (iI (v8_30 + (-1))))] [1, 2, 3, 4, 5, 6, 7, 8, 0] rfl ?_
          exact Hagain34 _ _ h ok50
      · have h := h.2 hb29
        refine z_aload_n C 3 d_n_quotient_192 rfl ?_
        refine z_nget_d C d_n_quotient_193 k_30 h_rest ?_
        refine z_iload C 8 d_n_quotient_196 rfl ?_
        refine z_iconst C d_n_quotient_198 ?_
        obtain ⟨hc51, h⟩ := h
        refine z_iastN C (600) d_n_quotient_199 (isN.A h_rest) (ln_num h_rest) hc51 ?_
        refine z_iinc C 8 [(8, .int (iI (v8_23 + 1))), (0, .ref (zA G t)), (1, .ref (zA G a)), (2, .ref (zA G b)), (3, .ref (zA G rest)), (4, .ref (zA G work)), (5, .int (iI v5_1)), (6, .int (iI v6_3)), (7, .int (iI v7_14))] d_n_quotient_200 rfl (by decide) rfl ?_
        refine z_goto C d_n_quotient_203 ?_
        obtain ⟨ok52, h⟩ := h
        refine z_sub [(0, .ref (zA G t)), (1, .ref (zA G a)), (2, .ref (zA G b)), (3, .ref (zA G rest)), (4, .ref (zA G work)), (5, .int (iI v5_1)), (6, .int (iI v6_3)), (7, .int (iI v7_14)), (8, .int (iI (v8_23 + 1)))] [1, 2, 3, 4, 5, 6, 7, 8, 0] rfl ?_
        exact Hagain27 _ _ h ok52
    · have h := h.2 hb9
      refine z_lconst C d_n_quotient_41 ?_
      refine z_lstore C [(7, .long (lL 0)), (6, .int (iI v6_3)), (5, .int (iI v5_1)), (0, .ref (zA G t)), (1, .ref (zA G a)), (2, .ref (zA G b)), (3, .ref (zA G rest)), (4, .ref (zA G work))] d_n_quotient_42 (by decide) rfl ?_
      refine z_aload_n C 5 d_n_quotient_44 rfl ?_
      refine z_nget_d C d_n_quotient_45 k_30 h_b ?_
      refine z_iconst C d_n_quotient_48 ?_
      refine z_ialdN C (600) d_n_quotient_49 (isN.A h_b) (ln_num h_b) ⟨by decide, by decide⟩ ?_
      obtain ⟨ok54, h⟩ := h
      refine z_i2l C d_n_quotient_50 ok54 ?_
      refine z_namel (fun v9_55 e56 => ?_)
      have h := h v9_55 e56
      have ok57 : okL v9_55 := by rw [e56]; exact ok54.L
      refine z_lstore C [(9, .long (lL v9_55)), (7, .long (lL 0)), (6, .int (iI v6_3)), (5, .int (iI v5_1)), (0, .ref (zA G t)), (1, .ref (zA G a)), (2, .ref (zA G b)), (3, .ref (zA G rest)), (4, .ref (zA G work))] d_n_quotient_51 (by decide) rfl ?_
      refine z_aload_n C 5 d_n_quotient_53 rfl ?_
      refine z_nget_n C d_n_quotient_54 k_32 h_a ?_
      refine z_iconst C d_n_quotient_57 ?_
      refine z_isub C d_n_quotient_58 ?_
      refine z_namei (fun v11_58 e59 => ?_)
      have h := h v11_58 e59
      refine z_istore C [(11, .int (iI v11_58)), (9, .long (lL v9_55)), (7, .long (lL 0)), (6, .int (iI v6_3)), (5, .int (iI v5_1)), (0, .ref (zA G t)), (1, .ref (zA G a)), (2, .ref (zA G b)), (3, .ref (zA G rest)), (4, .ref (zA G work))] d_n_quotient_59 (by decide) rfl ?_
      obtain ⟨ok62, h⟩ := h
      refine z_sub [(0, .ref (zA G t)), (1, .ref (zA G a)), (2, .ref (zA G b)), (3, .ref (zA G rest)), (7, .long (lL 0)), (9, .long (lL v9_55)), (11, .int (iI v11_58))] [5, 6, 7, 8, 2, 1, 0] rfl ?_
      refine (Lo2.walk (P := fun v7_60 v11_61 σ63 => okI v11_61 → Z E G 14 0 0 Q σ63 61 [(0, .ref (zA G t)), (1, .ref (zA G a)), (2, .ref (zA G b)), (3, .ref (zA G rest)), (7, .long (lL v7_60)), (9, .long (lL v9_55)), (11, .int (iI v11_61))] []) ?_ h) ok62
      intro v7_60 v11_61 σ63 again65 Hagain65 h ok64
      refine z_iload C 6 d_n_quotient_61 rfl ?_
      refine z_if_lt C d_n_quotient_63 ok64 (fun hb66 => ?_) (fun hb66 => ?_)
      · have h := h.1 hb66
        refine z_aload_n C 0 d_n_quotient_108 rfl ?_
        refine z_aload_n C 1 d_n_quotient_109 rfl ?_
        refine z_nget_n C d_n_quotient_110 k_32 h_a ?_
        refine z_aload_n C 1 d_n_quotient_113 rfl ?_
        refine z_nget_sign C d_n_quotient_114 k_33 h_a ?_
        refine z_aload_n C 2 d_n_quotient_117 rfl ?_
        refine z_nget_sign C d_n_quotient_118 k_33 h_b ?_
        refine z_imul C d_n_quotient_121 ?_
        obtain ⟨ok67, h⟩ := h
        obtain ⟨ok68, h⟩ := h
        refine z_callV C "LimbDesk$Num" [.int (iI (σ63 a 1)), .int (iI ((σ63 a 2) * (σ63 b 2)))] [] 2 d_n_quotient_122 (c_n_trim (zl E) G h h_t ok67 ok68) k_168 k_165 k_167 k_s2 k_2 (by decide) (recv_N C h_t) (by decide +kernel) rfl rfl (Nat.le_of_ble_eq_true rfl) hroom_n_trim (fun _r σ69 ok70 hq => ?_) (fun _ _ hx => hx.elim)
        have h := hq
        refine z_aload_n C 3 d_n_quotient_125 rfl ?_
        refine z_aload_n C 1 d_n_quotient_126 rfl ?_
        refine z_nget_sign C d_n_quotient_127 k_33 h_a ?_
        obtain ⟨ok71, h⟩ := h
        have hj : ∀ s73 : Int, s73 = (if 0 ≤ (σ69 a 2) then v7_60 else (-v7_60)) → Z E G 14 0 0 Q σ69 141 [(0, .ref (zA G t)), (1, .ref (zA G a)), (2, .ref (zA G b)), (3, .ref (zA G rest)), (7, .long (lL v7_60)), (9, .long (lL v9_55)), (11, .int (iI v11_61))] [.long (lL s73), .ref (zA G rest)] := by
          intro s73 e74
          have h := h s73 e74
          obtain ⟨ok75, h⟩ := h
          refine z_callV C "LimbDesk$Num" [.long (lL s73)] [] 1 d_n_quotient_141 (c_n_set (zl E) G h h_rest ok75) k_163 k_333 k_161 k_162 k_2 (by decide) (recv_N C h_rest) (by decide +kernel) rfl rfl (Nat.le_of_ble_eq_true rfl) hroom_n_set (fun _r σ76 ok77 hq => ?_) (fun _ _ hx => hx.elim)
          have h := hq
          subst hQ
          exact z_return C d_n_quotient_144.1 hr ⟨Nat.zero_le _, Nat.zero_le _⟩ h
        clear h
        refine z_if_ge C d_n_quotient_130 ok71 (fun hb72 => ?_) (fun hb72 => ?_)
        · refine z_lload C 4 d_n_quotient_139 rfl ?_
          exact hj _ (if_pos hb72).symm
        · refine z_lload C 4 d_n_quotient_133 rfl ?_
          refine z_lneg C d_n_quotient_135 ?_
          refine z_goto C d_n_quotient_136 ?_
          exact hj _ (if_neg (Int.not_le.mpr hb72)).symm
      · have h := h.2 hb66
        refine z_lload C 4 d_n_quotient_66 rfl ?_
        refine z_bipush C d_n_quotient_68 (by decide) ?_
        refine z_lshlK C 16777216 d_n_quotient_70 (by decide) ⟨by decide, by decide⟩ ?_
        refine z_aload_n C 1 d_n_quotient_71 rfl ?_
        refine z_nget_d C d_n_quotient_72 k_30 h_a ?_
        refine z_iload C 6 d_n_quotient_75 rfl ?_
        obtain ⟨hc78, h⟩ := h
        refine z_ialdN C (600) d_n_quotient_77 (isN.A h_a) (ln_num h_a) hc78 ?_
        obtain ⟨ok79, h⟩ := h
        refine z_i2l C d_n_quotient_78 ok79 ?_
        refine z_lor C d_n_quotient_79 ?_
        refine z_namel (fun v12_80 e81 => ?_)
        have h := h v12_80 e81
        have ok82 : okL v12_80 := by rw [e81]; exact (okL_or _ _)
        refine z_lstore C [(12, .long (lL v12_80)), (0, .ref (zA G t)), (1, .ref (zA G a)), (2, .ref (zA G b)), (3, .ref (zA G rest)), (7, .long (lL v7_60)), (9, .long (lL v9_55)), (11, .int (iI v11_61))] d_n_quotient_80 (by decide) rfl ?_
        refine z_aload_n C 1 d_n_quotient_82 rfl ?_
        refine z_nget_d C d_n_quotient_83 k_30 h_t ?_
        refine z_iload C 7 d_n_quotient_86 rfl ?_
        refine z_lload C 0 d_n_quotient_88 rfl ?_
        refine z_lload C 6 d_n_quotient_90 rfl ?_
        obtain ⟨hc83, h⟩ := h
        obtain ⟨hc84, h⟩ := h
        refine z_ldiv C d_n_quotient_92 hc83 hc84 ?_
        refine z_l2i C d_n_quotient_93 ?_
        refine z_iastN C (600) d_n_quotient_94 (isN.A h_t) (ln_num h_t) hc78 ?_
        refine z_lload C 0 d_n_quotient_95 rfl ?_
        refine z_lload C 6 d_n_quotient_97 rfl ?_
        refine z_lrem C d_n_quotient_99 hc83 hc84 ?_
        refine z_namel (fun v7_85 e86 => ?_)
        have h := h v7_85 e86
        refine z_lstore C [(7, .long (lL v7_85)), (12, .long (lL v12_80)), (0, .ref (zA G t)), (1, .ref (zA G a)), (2, .ref (zA G b)), (3, .ref (zA G rest)), (9, .long (lL v9_55)), (11, .int (iI v11_61))] d_n_quotient_100 (by decide) rfl ?_
        refine z_iinc C 7 [(11, .int (iI (v11_61 + (-1)))), (7, .long (lL v7_85)), (12, .long (lL v12_80)), (0, .ref (zA G t)), (1, .ref (zA G a)), (2, .ref (zA G b)), (3, .ref (zA G rest)), (9, .long (lL v9_55))] d_n_quotient_102 rfl (by decide) rfl ?_
        refine z_goto C d_n_quotient_105 ?_
        obtain ⟨ok87, h⟩ := h
        refine z_sub [(0, .ref (zA G t)), (1, .ref (zA G a)), (2, .ref (zA G b)), (3, .ref (zA G rest)), (7, .long (lL v7_85)), (9, .long (lL v9_55)), (11, .int (iI (v11_61 + (-1))))] [3, 4, 5, 6, 1, 7, 0] rfl ?_
        exact Hagain65 _ _ _ h ok87
  · have h := h.2 hb7
    refine z_aload_n C 5 d_n_quotient_23 rfl ?_
    refine z_aload_n C 3 d_n_quotient_24 rfl ?_
    refine z_callV C "LimbDesk$Num" [.ref (zA G a)] [] 1 d_n_quotient_25 (c_n_take (zl E) G h h_rest h_a) k_269 k_332 k_267 k_268 k_2 (by decide) (recv_N C h_rest) (by decide +kernel) rfl rfl (Nat.le_of_ble_eq_true rfl) hroom_n_take (fun _r σ88 ok89 hq => ?_) (fun _ _ hx => hx.elim)
    have h := hq
    refine z_aload_n C 2 d_n_quotient_28 rfl ?_
    refine z_iconst C d_n_quotient_29 ?_
    refine z_iconst C d_n_quotient_30 ?_
    refine z_callV C "LimbDesk$Num" [.int (iI 0), .int (iI 0)] [] 2 d_n_quotient_31 (c_n_trim (zl E) G h h_t (okI_lit rfl) (okI_lit rfl)) k_168 k_165 k_167 k_s2 k_2 (by decide) (recv_N C h_t) (by decide +kernel) rfl rfl (Nat.le_of_ble_eq_true rfl) hroom_n_trim (fun _r σ90 ok91 hq => ?_) (fun _ _ hx => hx.elim)
    have h := hq
    subst hQ
    exact z_return C d_n_quotient_34.1 hr ⟨Nat.zero_le _, Nat.zero_le _⟩ h
theorem d_n_floor_0 : DD b_n_floor 0 (.aload_n 0) 1 1 := ⟨by decide +kernel, rfl⟩
theorem d_n_floor_1 : DD b_n_floor 1 (.aload_n 1) 1 2 := ⟨by decide +kernel, rfl⟩
theorem d_n_floor_2 : DD b_n_floor 2 (.aload_n 2) 1 3 := ⟨by decide +kernel, rfl⟩
theorem d_n_floor_3 : DD b_n_floor 3 (.aload_n 3) 1 4 := ⟨by decide +kernel, rfl⟩
theorem d_n_floor_4 : DD b_n_floor 4 (.aload 4) 2 6 := ⟨by decide +kernel, rfl⟩
theorem d_n_floor_6 : DD b_n_floor 6 (.invokevirtual 81) 3 9 := ⟨by decide +kernel, rfl⟩
theorem d_n_floor_9 : DD b_n_floor 9 (.aload_n 3) 1 10 := ⟨by decide +kernel, rfl⟩
theorem d_n_floor_10 : DD b_n_floor 10 (.getfield 17) 3 13 := ⟨by decide +kernel, rfl⟩
theorem d_n_floor_13 : DB b_n_floor 13 (.ifCond .eq 14) 14 16 27 := ⟨by decide +kernel, rfl, rfl⟩
theorem d_n_floor_16 : DD b_n_floor 16 (.aload_n 3) 1 17 := ⟨by decide +kernel, rfl⟩
theorem d_n_floor_17 : DD b_n_floor 17 (.getfield 17) 3 20 := ⟨by decide +kernel, rfl⟩
theorem d_n_floor_20 : DD b_n_floor 20 (.aload_n 2) 1 21 := ⟨by decide +kernel, rfl⟩
theorem d_n_floor_21 : DD b_n_floor 21 (.getfield 17) 3 24 := ⟨by decide +kernel, rfl⟩
theorem d_n_floor_24 : DB b_n_floor 24 (.if_icmp .ne 4) 4 27 28 := ⟨by decide +kernel, rfl, rfl⟩
theorem d_n_floor_27 : DD b_n_floor 27 .return_ 1 28 := ⟨by decide +kernel, rfl⟩
theorem d_n_floor_28 : DD b_n_floor 28 (.aload_n 3) 1 29 := ⟨by decide +kernel, rfl⟩
theorem d_n_floor_29 : DD b_n_floor 29 (.aload_n 3) 1 30 := ⟨by decide +kernel, rfl⟩
theorem d_n_floor_30 : DD b_n_floor 30 (.aload_n 2) 1 31 := ⟨by decide +kernel, rfl⟩
theorem d_n_floor_31 : DD b_n_floor 31 (.invokevirtual 85) 3 34 := ⟨by decide +kernel, rfl⟩
theorem d_n_floor_34 : DD b_n_floor 34 (.aload_n 0) 1 35 := ⟨by decide +kernel, rfl⟩
theorem d_n_floor_35 : DD b_n_floor 35 (.iconst (-1)) 1 36 := ⟨by decide +kernel, rfl⟩
theorem d_n_floor_36 : DD b_n_floor 36 (.invokevirtual 55) 3 39 := ⟨by decide +kernel, rfl⟩
theorem d_n_floor_39 : DD b_n_floor 39 .return_ 1 40 := ⟨by decide +kernel, rfl⟩
set_option maxRecDepth 20000 in
set_option maxHeartbeats 4000000 in
theorem c_n_floor (l : Launch) (G : ZG) {t a b rest work : Int} {σ : Mem} {K : Mem → Prop} (h : wp_n_floor t a b rest work σ K) (h_t : isN t) (h_a : isN a) (h_b : isN b) (h_rest : isN rest) (h_work : isN work) : Ct l G y_n_floor (.code y_n_floor b_n_floor 5 none) { frames := 3, cells := 0, slots := 0, locals := 83 } 0 0 0 [.ref (zA G t), .ref (zA G a), .ref (zA G b), .ref (zA G rest), .ref (zA G work)] σ (fun _ σ1 => K σ1) (fun _ _ => False) := by
  unfold wp_n_floor at h
  refine Ct.ofZ [(0, .ref (zA G t)), (1, .ref (zA G a)), (2, .ref (zA G b)), (3, .ref (zA G rest)), (4, .ref (zA G work))] "LimbDesk$Num" (by decide) rfl (Nat.le_of_ble_eq_true rfl) rfl ?_
  intro E hR hlE C hr hX
  subst hlE
  have hroom_n_more : 0 + 1 ≤ (zR E).frames ∧ 8 + (3 + 11) + 0 ≤ (zR E).locals ∧ 0 + 0 ≤ (zR E).cells ∧ 0 + 0 ≤ (zR E).slots := by rw [hR]; decide
  have hroom_n_quotient : 2 + 1 ≤ (zR E).frames ∧ 8 + (14 + 11) + 50 ≤ (zR E).locals ∧ 0 + 0 ≤ (zR E).cells ∧ 0 + 0 ≤ (zR E).slots := by rw [hR]; decide
  have hroom_n_sum : 2 + 1 ≤ (zR E).frames ∧ 8 + (3 + 11) + 57 ≤ (zR E).locals ∧ 0 + 0 ≤ (zR E).cells ∧ 0 + 0 ≤ (zR E).slots := by rw [hR]; decide
  clear hR
  obtain ⟨Q, hQ⟩ : ∃ Q, Q = MQX G (zb E) 0 (fun _ σ1 => K σ1) (fun _ _ => False) (zs E) 0 0 0 0 := ⟨_, rfl⟩
  show Z E G 5 0 0 (MQX G (zb E) 0 (fun _ σ1 => K σ1) (fun _ _ => False) (zs E) 0 0 0 0) σ 0 [(0, .ref (zA G t)), (1, .ref (zA G a)), (2, .ref (zA G b)), (3, .ref (zA G rest)), (4, .ref (zA G work))] []
  rw [← hQ]
  refine z_aload_n C 0 d_n_floor_0 rfl ?_
  refine z_aload_n C 1 d_n_floor_1 rfl ?_
  refine z_aload_n C 2 d_n_floor_2 rfl ?_
  refine z_aload_n C 3 d_n_floor_3 rfl ?_
  refine z_aload C 4 d_n_floor_4 rfl ?_
  refine z_callV C "LimbDesk$Num" [.ref (zA G a), .ref (zA G b), .ref (zA G rest), .ref (zA G work)] [] 4 d_n_floor_6 (c_n_quotient (zl E) G h h_t h_a h_b h_rest h_work) k_331 k_328 k_329 k_330 k_2 (by decide) (recv_N C h_t) (by decide +kernel) rfl rfl (Nat.le_of_ble_eq_true rfl) hroom_n_quotient (fun _r σ1 ok2 hq => ?_) (fun _ _ hx => hx.elim)
  have h := hq
  refine z_aload_n C 3 d_n_floor_9 rfl ?_
  refine z_nget_sign C d_n_floor_10 k_33 h_rest ?_
  obtain ⟨ok3, h⟩ := h
  refine z_if_eq C d_n_floor_13 ok3 (fun hb4 => ?_) (fun hb4 => ?_)
  · have h := h.1 hb4
    subst hQ
    exact z_return C d_n_floor_27.1 hr ⟨Nat.zero_le _, Nat.zero_le _⟩ h
  · have h := h.2 hb4
    refine z_aload_n C 3 d_n_floor_16 rfl ?_
    refine z_nget_sign C d_n_floor_17 k_33 h_rest ?_
    refine z_aload_n C 2 d_n_floor_20 rfl ?_
    refine z_nget_sign C d_n_floor_21 k_33 h_b ?_
    obtain ⟨ok5, h⟩ := h
    refine z_icmp_ne C d_n_floor_24 ok3 ok5 (fun hb6 => ?_) (fun hb6 => ?_)
    · have h := h.1 hb6
      refine z_aload_n C 3 d_n_floor_28 rfl ?_
      refine z_aload_n C 3 d_n_floor_29 rfl ?_
      refine z_aload_n C 2 d_n_floor_30 rfl ?_
      refine z_callV C "LimbDesk$Num" [.ref (zA G rest), .ref (zA G b)] [] 2 d_n_floor_31 (c_n_sum (zl E) G h h_rest h_rest h_b) k_298 k_349 k_296 k_297 k_2 (by decide) (recv_N C h_rest) (by decide +kernel) rfl rfl (Nat.le_of_ble_eq_true rfl) hroom_n_sum (fun _r σ7 ok8 hq => ?_) (fun _ _ hx => hx.elim)
      have h := hq
      refine z_aload_n C 0 d_n_floor_34 rfl ?_
      refine z_iconst C d_n_floor_35 ?_
      refine z_callV C "LimbDesk$Num" [.int (iI (-1))] [] 1 d_n_floor_36 (c_n_more (zl E) G h h_t (okI_lit rfl)) k_348 k_345 k_347 k_s5 k_2 (by decide) (recv_N C h_t) (by decide +kernel) rfl rfl (Nat.le_of_ble_eq_true rfl) hroom_n_more (fun _r σ9 ok10 hq => ?_) (fun _ _ hx => hx.elim)
      have h := hq
      subst hQ
      exact z_return C d_n_floor_39.1 hr ⟨Nat.zero_le _, Nat.zero_le _⟩ h
    · have h := h.2 hb6
      subst hQ
      exact z_return C d_n_floor_27.1 hr ⟨Nat.zero_le _, Nat.zero_le _⟩ h
theorem d_n_endless_0 : DD b_n_endless 0 (.iload_n 1) 1 1 := ⟨by decide +kernel, rfl⟩
theorem d_n_endless_1 : DD b_n_endless 1 (.aload_n 0) 1 2 := ⟨by decide +kernel, rfl⟩
theorem d_n_endless_2 : DD b_n_endless 2 (.getfield 13) 3 5 := ⟨by decide +kernel, rfl⟩
theorem d_n_endless_5 : DB b_n_endless 5 (.if_icmp .ge 12) 12 8 17 := ⟨by decide +kernel, rfl, rfl⟩
theorem d_n_endless_8 : DD b_n_endless 8 (.aload_n 0) 1 9 := ⟨by decide +kernel, rfl⟩
theorem d_n_endless_9 : DD b_n_endless 9 (.getfield 9) 3 12 := ⟨by decide +kernel, rfl⟩
theorem d_n_endless_12 : DD b_n_endless 12 (.iload_n 1) 1 13 := ⟨by decide +kernel, rfl⟩
theorem d_n_endless_13 : DD b_n_endless 13 .iaload 1 14 := ⟨by decide +kernel, rfl⟩
theorem d_n_endless_14 : DB b_n_endless 14 (.goto 4) 4 17 18 := ⟨by decide +kernel, rfl, rfl⟩
theorem d_n_endless_17 : DD b_n_endless 17 (.iconst 0) 1 18 := ⟨by decide +kernel, rfl⟩
theorem d_n_endless_18 : DD b_n_endless 18 (.istore_n 3) 1 19 := ⟨by decide +kernel, rfl⟩
theorem d_n_endless_19 : DD b_n_endless 19 (.aload_n 0) 1 20 := ⟨by decide +kernel, rfl⟩
theorem d_n_endless_20 : DD b_n_endless 20 (.getfield 17) 3 23 := ⟨by decide +kernel, rfl⟩
theorem d_n_endless_23 : DB b_n_endless 23 (.ifCond .lt 7) 7 26 30 := ⟨by decide +kernel, rfl, rfl⟩
theorem d_n_endless_26 : DD b_n_endless 26 (.iload_n 3) 1 27 := ⟨by decide +kernel, rfl⟩
theorem d_n_endless_27 : DB b_n_endless 27 (.goto 21) 21 30 48 := ⟨by decide +kernel, rfl, rfl⟩
theorem d_n_endless_30 : DD b_n_endless 30 (.iload_n 2) 1 31 := ⟨by decide +kernel, rfl⟩
theorem d_n_endless_31 : DB b_n_endless 31 (.ifCond .eq 11) 11 34 42 := ⟨by decide +kernel, rfl, rfl⟩
theorem d_n_endless_34 : DD b_n_endless 34 (.iload_n 3) 1 35 := ⟨by decide +kernel, rfl⟩
theorem d_n_endless_35 : DD b_n_endless 35 .ineg 1 36 := ⟨by decide +kernel, rfl⟩
theorem d_n_endless_36 : DD b_n_endless 36 (.ldc 50) 2 38 := ⟨by decide +kernel, rfl⟩
theorem d_n_endless_38 : DD b_n_endless 38 .iand 1 39 := ⟨by decide +kernel, rfl⟩
theorem d_n_endless_39 : DB b_n_endless 39 (.goto 9) 9 42 48 := ⟨by decide +kernel, rfl, rfl⟩
theorem d_n_endless_42 : DD b_n_endless 42 (.iload_n 3) 1 43 := ⟨by decide +kernel, rfl⟩
theorem d_n_endless_43 : DD b_n_endless 43 (.iconst (-1)) 1 44 := ⟨by decide +kernel, rfl⟩
theorem d_n_endless_44 : DD b_n_endless 44 .ixor 1 45 := ⟨by decide +kernel, rfl⟩
theorem d_n_endless_45 : DD b_n_endless 45 (.ldc 50) 2 47 := ⟨by decide +kernel, rfl⟩
theorem d_n_endless_47 : DD b_n_endless 47 .iand 1 48 := ⟨by decide +kernel, rfl⟩
theorem d_n_endless_48 : DD b_n_endless 48 .ireturn 1 49 := ⟨by decide +kernel, rfl⟩
set_option maxRecDepth 20000 in
set_option maxHeartbeats 4000000 in
theorem c_n_endless (l : Launch) (G : ZG) {a k zeros : Int} {σ : Mem} {K : Int → Prop} (h : wp_n_endless a k zeros σ K) (h_a : isN a) (h_k : okI k) (h_zeros : okI zeros) : Ct l G y_n_endless (.code y_n_endless b_n_endless 4 (some .int)) { frames := 0, cells := 0, slots := 0, locals := 0 } 0 0 1 [.ref (zA G a), .int (iI k), .int (iI zeros)] σ (fun r σ1 => σ = σ1 ∧ K r) (fun _ _ => False) := by
  unfold wp_n_endless at h
  refine Ct.ofZ [(0, .ref (zA G a)), (1, .int (iI k)), (2, .int (iI zeros))] "LimbDesk$Num" (by decide) rfl (Nat.le_of_ble_eq_true rfl) rfl ?_
  intro E hR hlE C hr hX
  subst hlE
  clear hR
  obtain ⟨Q, hQ⟩ : ∃ Q, Q = MQX G (zb E) 1 (fun r σ1 => σ = σ1 ∧ K r) (fun _ _ => False) (zs E) 0 0 0 0 := ⟨_, rfl⟩
  show Z E G 4 0 0 (MQX G (zb E) 1 (fun r σ1 => σ = σ1 ∧ K r) (fun _ _ => False) (zs E) 0 0 0 0) σ 0 [(0, .ref (zA G a)), (1, .int (iI k)), (2, .int (iI zeros))] []
  rw [← hQ]
  refine z_iload_n C 1 d_n_endless_0 rfl ?_
  refine z_aload_n C 0 d_n_endless_1 rfl ?_
  refine z_nget_n C d_n_endless_2 k_32 h_a ?_
  obtain ⟨ok1, h⟩ := h
  obtain ⟨ha6, h⟩ := h
  have hj : ∀ s4 : Int, s4 = (if (σ a 1) ≤ k then 0 else (σ (21 + a) k)) → Z E G 4 0 0 Q σ 18 [(0, .ref (zA G a)), (1, .int (iI k)), (2, .int (iI zeros))] [.int (iI s4)] := by
    intro s4 e5
    have h := h s4 e5
    refine z_istore_n C [(3, .int (iI s4)), (0, .ref (zA G a)), (1, .int (iI k)), (2, .int (iI zeros))] d_n_endless_18 (by decide) rfl ?_
    refine z_aload_n C 1 d_n_endless_19 rfl ?_
    refine z_nget_sign C d_n_endless_20 k_33 h_a ?_
    obtain ⟨ok7, h⟩ := h
    refine z_if_lt C d_n_endless_23 ok7 (fun hb8 => ?_) (fun hb8 => ?_)
    · have h := h.1 hb8
      refine z_iload_n C 3 d_n_endless_30 rfl ?_
      refine z_if_eq C d_n_endless_31 h_zeros (fun hb9 => ?_) (fun hb9 => ?_)
      · have h := h.1 hb9
        refine z_iload_n C 0 d_n_endless_42 rfl ?_
        refine z_iconst C d_n_endless_43 ?_
        refine z_inot C d_n_endless_44 ?_
        refine z_ldc C d_n_endless_45 k_261 (n := 16777215) (by decide) ?_
        refine z_imask C 24 16777216 d_n_endless_47 (by decide) (by decide) (by decide) ?_
        subst hQ
        exact z_ireturn C d_n_endless_48.1 hr ⟨Nat.zero_le _, Nat.zero_le _⟩ (okI_mod (by decide) (by decide)) ⟨rfl, h⟩
      · have h := h.2 hb9
        refine z_iload_n C 0 d_n_endless_34 rfl ?_
        refine z_ineg C d_n_endless_35 ?_
        refine z_ldc C d_n_endless_36 k_261 (n := 16777215) (by decide) ?_
        refine z_imask C 24 16777216 d_n_endless_38 (by decide) (by decide) (by decide) ?_
        refine z_goto C d_n_endless_39 ?_
        subst hQ
        exact z_ireturn C d_n_endless_48.1 hr ⟨Nat.zero_le _, Nat.zero_le _⟩ (okI_mod (by decide) (by decide)) ⟨rfl, h⟩
    · have h := h.2 hb8
      refine z_iload_n C 0 d_n_endless_26 rfl ?_
      refine z_goto C d_n_endless_27 ?_
      obtain ⟨ok10, h⟩ := h
      subst hQ
      exact z_ireturn C d_n_endless_48.1 hr ⟨Nat.zero_le _, Nat.zero_le _⟩ ok10 ⟨rfl, h⟩
  clear h
  refine z_icmp_ge C d_n_endless_5 h_k ok1 (fun hb2 => ?_) (fun hb2 => ?_)
  · refine z_iconst C d_n_endless_17 ?_
    exact hj _ (if_pos hb2).symm
  · have h := ha6 hb2
    refine z_aload_n C 0 d_n_endless_8 rfl ?_
    refine z_nget_d C d_n_endless_9 k_30 h_a ?_
    refine z_iload_n C 1 d_n_endless_12 rfl ?_
    obtain ⟨hc3, h⟩ := h
    refine z_ialdN C (600) d_n_endless_13 (isN.A h_a) (ln_num h_a) hc3 ?_
    refine z_goto C d_n_endless_14 ?_
    exact hj _ (if_neg (Int.not_le.mpr hb2)).symm
theorem d_n_bitwise_0 : DD b_n_bitwise 0 (.aload_n 2) 1 1 := ⟨by decide +kernel, rfl⟩
theorem d_n_bitwise_1 : DD b_n_bitwise 1 (.getfield 13) 3 4 := ⟨by decide +kernel, rfl⟩
theorem d_n_bitwise_4 : DD b_n_bitwise 4 (.aload_n 3) 1 5 := ⟨by decide +kernel, rfl⟩
theorem d_n_bitwise_5 : DD b_n_bitwise 5 (.getfield 13) 3 8 := ⟨by decide +kernel, rfl⟩
theorem d_n_bitwise_8 : DD b_n_bitwise 8 (.invokestatic 47) 3 11 := ⟨by decide +kernel, rfl⟩
theorem d_n_bitwise_11 : DD b_n_bitwise 11 (.iconst 1) 1 12 := ⟨by decide +kernel, rfl⟩
theorem d_n_bitwise_12 : DD b_n_bitwise 12 .iadd 1 13 := ⟨by decide +kernel, rfl⟩
theorem d_n_bitwise_13 : DD b_n_bitwise 13 (.istore 4) 2 15 := ⟨by decide +kernel, rfl⟩
theorem d_n_bitwise_15 : DD b_n_bitwise 15 (.iconst 1) 1 16 := ⟨by decide +kernel, rfl⟩
theorem d_n_bitwise_16 : DD b_n_bitwise 16 (.istore 5) 2 18 := ⟨by decide +kernel, rfl⟩
theorem d_n_bitwise_18 : DD b_n_bitwise 18 (.iconst 1) 1 19 := ⟨by decide +kernel, rfl⟩
theorem d_n_bitwise_19 : DD b_n_bitwise 19 (.istore 6) 2 21 := ⟨by decide +kernel, rfl⟩
theorem d_n_bitwise_21 : DD b_n_bitwise 21 (.iload_n 1) 1 22 := ⟨by decide +kernel, rfl⟩
theorem d_n_bitwise_22 : DB b_n_bitwise 22 (.ifCond .ne 15) 15 25 37 := ⟨by decide +kernel, rfl, rfl⟩
theorem d_n_bitwise_25 : DD b_n_bitwise 25 (.aload_n 2) 1 26 := ⟨by decide +kernel, rfl⟩
theorem d_n_bitwise_26 : DD b_n_bitwise 26 (.getfield 17) 3 29 := ⟨by decide +kernel, rfl⟩
theorem d_n_bitwise_29 : DD b_n_bitwise 29 (.aload_n 3) 1 30 := ⟨by decide +kernel, rfl⟩
theorem d_n_bitwise_30 : DD b_n_bitwise 30 (.getfield 17) 3 33 := ⟨by decide +kernel, rfl⟩
theorem d_n_bitwise_33 : DD b_n_bitwise 33 .iand 1 34 := ⟨by decide +kernel, rfl⟩
theorem d_n_bitwise_34 : DB b_n_bitwise 34 (.goto 29) 29 37 63 := ⟨by decide +kernel, rfl, rfl⟩
theorem d_n_bitwise_37 : DD b_n_bitwise 37 (.iload_n 1) 1 38 := ⟨by decide +kernel, rfl⟩
theorem d_n_bitwise_38 : DD b_n_bitwise 38 (.iconst 1) 1 39 := ⟨by decide +kernel, rfl⟩
theorem d_n_bitwise_39 : DB b_n_bitwise 39 (.if_icmp .ne 15) 15 42 54 := ⟨by decide +kernel, rfl, rfl⟩
theorem d_n_bitwise_42 : DD b_n_bitwise 42 (.aload_n 2) 1 43 := ⟨by decide +kernel, rfl⟩
theorem d_n_bitwise_43 : DD b_n_bitwise 43 (.getfield 17) 3 46 := ⟨by decide +kernel, rfl⟩
theorem d_n_bitwise_46 : DD b_n_bitwise 46 (.aload_n 3) 1 47 := ⟨by decide +kernel, rfl⟩
theorem d_n_bitwise_47 : DD b_n_bitwise 47 (.getfield 17) 3 50 := ⟨by decide +kernel, rfl⟩
theorem d_n_bitwise_50 : DD b_n_bitwise 50 .ior 1 51 := ⟨by decide +kernel, rfl⟩
theorem d_n_bitwise_51 : DB b_n_bitwise 51 (.goto 12) 12 54 63 := ⟨by decide +kernel, rfl, rfl⟩
theorem d_n_bitwise_54 : DD b_n_bitwise 54 (.aload_n 2) 1 55 := ⟨by decide +kernel, rfl⟩
theorem d_n_bitwise_55 : DD b_n_bitwise 55 (.getfield 17) 3 58 := ⟨by decide +kernel, rfl⟩
theorem d_n_bitwise_58 : DD b_n_bitwise 58 (.aload_n 3) 1 59 := ⟨by decide +kernel, rfl⟩
theorem d_n_bitwise_59 : DD b_n_bitwise 59 (.getfield 17) 3 62 := ⟨by decide +kernel, rfl⟩
theorem d_n_bitwise_62 : DD b_n_bitwise 62 .ixor 1 63 := ⟨by decide +kernel, rfl⟩
theorem d_n_bitwise_63 : DB b_n_bitwise 63 (.ifCond .ge 7) 7 66 70 := ⟨by decide +kernel, rfl, rfl⟩
theorem d_n_bitwise_66 : DD b_n_bitwise 66 (.iconst 1) 1 67 := ⟨by decide +kernel, rfl⟩
theorem d_n_bitwise_67 : DB b_n_bitwise 67 (.goto 4) 4 70 71 := ⟨by decide +kernel, rfl, rfl⟩
theorem d_n_bitwise_70 : DD b_n_bitwise 70 (.iconst 0) 1 71 := ⟨by decide +kernel, rfl⟩
theorem d_n_bitwise_71 : DD b_n_bitwise 71 (.istore 7) 2 73 := ⟨by decide +kernel, rfl⟩
theorem d_n_bitwise_73 : DD b_n_bitwise 73 (.iload_n 1) 1 74 := ⟨by decide +kernel, rfl⟩
theorem d_n_bitwise_74 : DD b_n_bitwise 74 (.iconst 2) 1 75 := ⟨by decide +kernel, rfl⟩
theorem d_n_bitwise_75 : DB b_n_bitwise 75 (.if_icmp .ne 37) 37 78 112 := ⟨by decide +kernel, rfl, rfl⟩
theorem d_n_bitwise_78 : DD b_n_bitwise 78 (.aload_n 2) 1 79 := ⟨by decide +kernel, rfl⟩
theorem d_n_bitwise_79 : DD b_n_bitwise 79 (.getfield 17) 3 82 := ⟨by decide +kernel, rfl⟩
theorem d_n_bitwise_82 : DB b_n_bitwise 82 (.ifCond .ge 7) 7 85 89 := ⟨by decide +kernel, rfl, rfl⟩
theorem d_n_bitwise_85 : DD b_n_bitwise 85 (.iconst 1) 1 86 := ⟨by decide +kernel, rfl⟩
theorem d_n_bitwise_86 : DB b_n_bitwise 86 (.goto 4) 4 89 90 := ⟨by decide +kernel, rfl, rfl⟩
theorem d_n_bitwise_89 : DD b_n_bitwise 89 (.iconst 0) 1 90 := ⟨by decide +kernel, rfl⟩
theorem d_n_bitwise_90 : DD b_n_bitwise 90 (.aload_n 3) 1 91 := ⟨by decide +kernel, rfl⟩
theorem d_n_bitwise_91 : DD b_n_bitwise 91 (.getfield 17) 3 94 := ⟨by decide +kernel, rfl⟩
theorem d_n_bitwise_94 : DB b_n_bitwise 94 (.ifCond .ge 7) 7 97 101 := ⟨by decide +kernel, rfl, rfl⟩
theorem d_n_bitwise_97 : DD b_n_bitwise 97 (.iconst 1) 1 98 := ⟨by decide +kernel, rfl⟩
theorem d_n_bitwise_98 : DB b_n_bitwise 98 (.goto 4) 4 101 102 := ⟨by decide +kernel, rfl, rfl⟩
theorem d_n_bitwise_101 : DD b_n_bitwise 101 (.iconst 0) 1 102 := ⟨by decide +kernel, rfl⟩
theorem d_n_bitwise_102 : DB b_n_bitwise 102 (.if_icmp .eq 7) 7 105 109 := ⟨by decide +kernel, rfl, rfl⟩
theorem d_n_bitwise_105 : DD b_n_bitwise 105 (.iconst 1) 1 106 := ⟨by decide +kernel, rfl⟩
theorem d_n_bitwise_106 : DB b_n_bitwise 106 (.goto 4) 4 109 110 := ⟨by decide +kernel, rfl, rfl⟩
theorem d_n_bitwise_109 : DD b_n_bitwise 109 (.iconst 0) 1 110 := ⟨by decide +kernel, rfl⟩
theorem d_n_bitwise_110 : DD b_n_bitwise 110 (.istore 7) 2 112 := ⟨by decide +kernel, rfl⟩
theorem d_n_bitwise_112 : DD b_n_bitwise 112 (.iconst 1) 1 113 := ⟨by decide +kernel, rfl⟩
theorem d_n_bitwise_113 : DD b_n_bitwise 113 (.istore 8) 2 115 := ⟨by decide +kernel, rfl⟩
theorem d_n_bitwise_115 : DD b_n_bitwise 115 (.iconst 0) 1 116 := ⟨by decide +kernel, rfl⟩
theorem d_n_bitwise_116 : DD b_n_bitwise 116 (.istore 9) 2 118 := ⟨by decide +kernel, rfl⟩
theorem d_n_bitwise_118 : DD b_n_bitwise 118 (.iload 9) 2 120 := ⟨by decide +kernel, rfl⟩
theorem d_n_bitwise_120 : DD b_n_bitwise 120 (.iload 4) 2 122 := ⟨by decide +kernel, rfl⟩
theorem d_n_bitwise_122 : DB b_n_bitwise 122 (.if_icmp .ge 151) 151 125 273 := ⟨by decide +kernel, rfl, rfl⟩
theorem d_n_bitwise_125 : DD b_n_bitwise 125 (.aload_n 2) 1 126 := ⟨by decide +kernel, rfl⟩
theorem d_n_bitwise_126 : DD b_n_bitwise 126 (.iload 9) 2 128 := ⟨by decide +kernel, rfl⟩
theorem d_n_bitwise_128 : DD b_n_bitwise 128 (.iload 5) 2 130 := ⟨by decide +kernel, rfl⟩
theorem d_n_bitwise_130 : DD b_n_bitwise 130 (.invokestatic 88) 3 133 := ⟨by decide +kernel, rfl⟩
theorem d_n_bitwise_133 : DD b_n_bitwise 133 (.istore 10) 2 135 := ⟨by decide +kernel, rfl⟩
theorem d_n_bitwise_135 : DD b_n_bitwise 135 (.aload_n 3) 1 136 := ⟨by decide +kernel, rfl⟩
theorem d_n_bitwise_136 : DD b_n_bitwise 136 (.iload 9) 2 138 := ⟨by decide +kernel, rfl⟩
theorem d_n_bitwise_138 : DD b_n_bitwise 138 (.iload 6) 2 140 := ⟨by decide +kernel, rfl⟩
theorem d_n_bitwise_140 : DD b_n_bitwise 140 (.invokestatic 88) 3 143 := ⟨by decide +kernel, rfl⟩
theorem d_n_bitwise_143 : DD b_n_bitwise 143 (.istore 11) 2 145 := ⟨by decide +kernel, rfl⟩
theorem d_n_bitwise_145 : DD b_n_bitwise 145 (.iload_n 1) 1 146 := ⟨by decide +kernel, rfl⟩
theorem d_n_bitwise_146 : DB b_n_bitwise 146 (.ifCond .ne 11) 11 149 157 := ⟨by decide +kernel, rfl, rfl⟩
theorem d_n_bitwise_149 : DD b_n_bitwise 149 (.iload 10) 2 151 := ⟨by decide +kernel, rfl⟩
theorem d_n_bitwise_151 : DD b_n_bitwise 151 (.iload 11) 2 153 := ⟨by decide +kernel, rfl⟩
theorem d_n_bitwise_153 : DD b_n_bitwise 153 .iand 1 154 := ⟨by decide +kernel, rfl⟩
theorem d_n_bitwise_154 : DB b_n_bitwise 154 (.goto 21) 21 157 175 := ⟨by decide +kernel, rfl, rfl⟩
theorem d_n_bitwise_157 : DD b_n_bitwise 157 (.iload_n 1) 1 158 := ⟨by decide +kernel, rfl⟩
theorem d_n_bitwise_158 : DD b_n_bitwise 158 (.iconst 1) 1 159 := ⟨by decide +kernel, rfl⟩
theorem d_n_bitwise_159 : DB b_n_bitwise 159 (.if_icmp .ne 11) 11 162 170 := ⟨by decide +kernel, rfl, rfl⟩
theorem d_n_bitwise_162 : DD b_n_bitwise 162 (.iload 10) 2 164 := ⟨by decide +kernel, rfl⟩
theorem d_n_bitwise_164 : DD b_n_bitwise 164 (.iload 11) 2 166 := ⟨by decide +kernel, rfl⟩
theorem d_n_bitwise_166 : DD b_n_bitwise 166 .ior 1 167 := ⟨by decide +kernel, rfl⟩
theorem d_n_bitwise_167 : DB b_n_bitwise 167 (.goto 8) 8 170 175 := ⟨by decide +kernel, rfl, rfl⟩
theorem d_n_bitwise_170 : DD b_n_bitwise 170 (.iload 10) 2 172 := ⟨by decide +kernel, rfl⟩
theorem d_n_bitwise_172 : DD b_n_bitwise 172 (.iload 11) 2 174 := ⟨by decide +kernel, rfl⟩
theorem d_n_bitwise_174 : DD b_n_bitwise 174 .ixor 1 175 := ⟨by decide +kernel, rfl⟩
theorem d_n_bitwise_175 : DD b_n_bitwise 175 (.istore 12) 2 177 := ⟨by decide +kernel, rfl⟩
theorem d_n_bitwise_177 : DD b_n_bitwise 177 (.iload 9) 2 179 := ⟨by decide +kernel, rfl⟩
theorem d_n_bitwise_179 : DD b_n_bitwise 179 (.aload_n 2) 1 180 := ⟨by decide +kernel, rfl⟩
theorem d_n_bitwise_180 : DD b_n_bitwise 180 (.getfield 13) 3 183 := ⟨by decide +kernel, rfl⟩
theorem d_n_bitwise_183 : DB b_n_bitwise 183 (.if_icmp .ge 16) 16 186 199 := ⟨by decide +kernel, rfl, rfl⟩
theorem d_n_bitwise_186 : DD b_n_bitwise 186 (.aload_n 2) 1 187 := ⟨by decide +kernel, rfl⟩
theorem d_n_bitwise_187 : DD b_n_bitwise 187 (.getfield 9) 3 190 := ⟨by decide +kernel, rfl⟩
theorem d_n_bitwise_190 : DD b_n_bitwise 190 (.iload 9) 2 192 := ⟨by decide +kernel, rfl⟩
theorem d_n_bitwise_192 : DD b_n_bitwise 192 .iaload 1 193 := ⟨by decide +kernel, rfl⟩
theorem d_n_bitwise_193 : DB b_n_bitwise 193 (.ifCond .eq 6) 6 196 199 := ⟨by decide +kernel, rfl, rfl⟩
theorem d_n_bitwise_196 : DD b_n_bitwise 196 (.iconst 0) 1 197 := ⟨by decide +kernel, rfl⟩
theorem d_n_bitwise_197 : DD b_n_bitwise 197 (.istore 5) 2 199 := ⟨by decide +kernel, rfl⟩
theorem d_n_bitwise_199 : DD b_n_bitwise 199 (.iload 9) 2 201 := ⟨by decide +kernel, rfl⟩
theorem d_n_bitwise_201 : DD b_n_bitwise 201 (.aload_n 3) 1 202 := ⟨by decide +kernel, rfl⟩
theorem d_n_bitwise_202 : DD b_n_bitwise 202 (.getfield 13) 3 205 := ⟨by decide +kernel, rfl⟩
theorem d_n_bitwise_205 : DB b_n_bitwise 205 (.if_icmp .ge 16) 16 208 221 := ⟨by decide +kernel, rfl, rfl⟩
theorem d_n_bitwise_208 : DD b_n_bitwise 208 (.aload_n 3) 1 209 := ⟨by decide +kernel, rfl⟩
theorem d_n_bitwise_209 : DD b_n_bitwise 209 (.getfield 9) 3 212 := ⟨by decide +kernel, rfl⟩
theorem d_n_bitwise_212 : DD b_n_bitwise 212 (.iload 9) 2 214 := ⟨by decide +kernel, rfl⟩
theorem d_n_bitwise_214 : DD b_n_bitwise 214 .iaload 1 215 := ⟨by decide +kernel, rfl⟩
theorem d_n_bitwise_215 : DB b_n_bitwise 215 (.ifCond .eq 6) 6 218 221 := ⟨by decide +kernel, rfl, rfl⟩
theorem d_n_bitwise_218 : DD b_n_bitwise 218 (.iconst 0) 1 219 := ⟨by decide +kernel, rfl⟩
theorem d_n_bitwise_219 : DD b_n_bitwise 219 (.istore 6) 2 221 := ⟨by decide +kernel, rfl⟩
theorem d_n_bitwise_221 : DD b_n_bitwise 221 (.aload_n 0) 1 222 := ⟨by decide +kernel, rfl⟩
theorem d_n_bitwise_222 : DD b_n_bitwise 222 (.getfield 9) 3 225 := ⟨by decide +kernel, rfl⟩
theorem d_n_bitwise_225 : DD b_n_bitwise 225 (.iload 9) 2 227 := ⟨by decide +kernel, rfl⟩
theorem d_n_bitwise_227 : DD b_n_bitwise 227 (.iload 7) 2 229 := ⟨by decide +kernel, rfl⟩
theorem d_n_bitwise_229 : DB b_n_bitwise 229 (.ifCond .ne 8) 8 232 237 := ⟨by decide +kernel, rfl, rfl⟩
theorem d_n_bitwise_232 : DD b_n_bitwise 232 (.iload 12) 2 234 := ⟨by decide +kernel, rfl⟩
theorem d_n_bitwise_234 : DB b_n_bitwise 234 (.goto 24) 24 237 258 := ⟨by decide +kernel, rfl, rfl⟩
theorem d_n_bitwise_237 : DD b_n_bitwise 237 (.iload 8) 2 239 := ⟨by decide +kernel, rfl⟩
theorem d_n_bitwise_239 : DB b_n_bitwise 239 (.ifCond .eq 12) 12 242 251 := ⟨by decide +kernel, rfl, rfl⟩
theorem d_n_bitwise_242 : DD b_n_bitwise 242 (.iload 12) 2 244 := ⟨by decide +kernel, rfl⟩
theorem d_n_bitwise_244 : DD b_n_bitwise 244 .ineg 1 245 := ⟨by decide +kernel, rfl⟩
theorem d_n_bitwise_245 : DD b_n_bitwise 245 (.ldc 50) 2 247 := ⟨by decide +kernel, rfl⟩
theorem d_n_bitwise_247 : DD b_n_bitwise 247 .iand 1 248 := ⟨by decide +kernel, rfl⟩
theorem d_n_bitwise_248 : DB b_n_bitwise 248 (.goto 10) 10 251 258 := ⟨by decide +kernel, rfl, rfl⟩
theorem d_n_bitwise_251 : DD b_n_bitwise 251 (.iload 12) 2 253 := ⟨by decide +kernel, rfl⟩
theorem d_n_bitwise_253 : DD b_n_bitwise 253 (.iconst (-1)) 1 254 := ⟨by decide +kernel, rfl⟩
theorem d_n_bitwise_254 : DD b_n_bitwise 254 .ixor 1 255 := ⟨by decide +kernel, rfl⟩
theorem d_n_bitwise_255 : DD b_n_bitwise 255 (.ldc 50) 2 257 := ⟨by decide +kernel, rfl⟩
theorem d_n_bitwise_257 : DD b_n_bitwise 257 .iand 1 258 := ⟨by decide +kernel, rfl⟩
theorem d_n_bitwise_258 : DD b_n_bitwise 258 .iastore 1 259 := ⟨by decide +kernel, rfl⟩
theorem d_n_bitwise_259 : DD b_n_bitwise 259 (.iload 12) 2 261 := ⟨by decide +kernel, rfl⟩
theorem d_n_bitwise_261 : DB b_n_bitwise 261 (.ifCond .eq 6) 6 264 267 := ⟨by decide +kernel, rfl, rfl⟩
theorem d_n_bitwise_264 : DD b_n_bitwise 264 (.iconst 0) 1 265 := ⟨by decide +kernel, rfl⟩
theorem d_n_bitwise_265 : DD b_n_bitwise 265 (.istore 8) 2 267 := ⟨by decide +kernel, rfl⟩
theorem d_n_bitwise_267 : DD b_n_bitwise 267 (.iinc 9 1) 3 270 := ⟨by decide +kernel, rfl⟩
theorem d_n_bitwise_270 : DB b_n_bitwise 270 (.goto (-152)) (-152) 273 118 := ⟨by decide +kernel, rfl, rfl⟩
theorem d_n_bitwise_273 : DD b_n_bitwise 273 (.aload_n 0) 1 274 := ⟨by decide +kernel, rfl⟩
theorem d_n_bitwise_274 : DD b_n_bitwise 274 (.iload 4) 2 276 := ⟨by decide +kernel, rfl⟩
theorem d_n_bitwise_276 : DD b_n_bitwise 276 (.iload 7) 2 278 := ⟨by decide +kernel, rfl⟩
theorem d_n_bitwise_278 : DB b_n_bitwise 278 (.ifCond .eq 7) 7 281 285 := ⟨by decide +kernel, rfl, rfl⟩
theorem d_n_bitwise_281 : DD b_n_bitwise 281 (.iconst (-1)) 1 282 := ⟨by decide +kernel, rfl⟩
theorem d_n_bitwise_282 : DB b_n_bitwise 282 (.goto 4) 4 285 286 := ⟨by decide +kernel, rfl, rfl⟩
theorem d_n_bitwise_285 : DD b_n_bitwise 285 (.iconst 1) 1 286 := ⟨by decide +kernel, rfl⟩
theorem d_n_bitwise_286 : DD b_n_bitwise 286 (.invokevirtual 22) 3 289 := ⟨by decide +kernel, rfl⟩
theorem d_n_bitwise_289 : DD b_n_bitwise 289 .return_ 1 290 := ⟨by decide +kernel, rfl⟩
set_option maxRecDepth 20000 in
set_option maxHeartbeats 4000000 in
theorem c_n_bitwise (l : Launch) (G : ZG) {t how a b : Int} {σ : Mem} {K : Mem → Prop} (h : wp_n_bitwise t how a b σ K) (h_t : isN t) (h_how : okI how) (h_a : isN a) (h_b : isN b) : Ct l G y_n_bitwise (.code y_n_bitwise b_n_bitwise 13 none) { frames := 1, cells := 0, slots := 0, locals := 23 } 0 0 0 [.ref (zA G t), .int (iI how), .ref (zA G a), .ref (zA G b)] σ (fun _ σ1 => K σ1) (fun _ _ => False) := by
  unfold wp_n_bitwise at h
  refine Ct.ofZ [(0, .ref (zA G t)), (1, .int (iI how)), (2, .ref (zA G a)), (3, .ref (zA G b))] "LimbDesk$Num" (by decide) rfl (Nat.le_of_ble_eq_true rfl) rfl ?_
  intro E hR hlE C hr hX
  subst hlE
  have hroom_math : 1 ≤ (zR E).frames ∧ 8 + 13 ≤ (zR E).locals ∧ 0 ≤ (zR E).cells ∧ 0 ≤ (zR E).slots := by rw [hR]; decide
  have hroom_n_endless : 0 + 1 ≤ (zR E).frames ∧ 8 + (4 + 11) + 0 ≤ (zR E).locals ∧ 0 + 0 ≤ (zR E).cells ∧ 0 + 0 ≤ (zR E).slots := by rw [hR]; decide
  have hroom_n_trim : 0 + 1 ≤ (zR E).frames ∧ 8 + (3 + 11) + 0 ≤ (zR E).locals ∧ 0 + 0 ≤ (zR E).cells ∧ 0 + 0 ≤ (zR E).slots := by rw [hR]; decide
  clear hR
  obtain ⟨Q, hQ⟩ : ∃ Q, Q = MQX G (zb E) 0 (fun _ σ1 => K σ1) (fun _ _ => False) (zs E) 0 0 0 0 := ⟨_, rfl⟩
  show Z E G 13 0 0 (MQX G (zb E) 0 (fun _ σ1 => K σ1) (fun _ _ => False) (zs E) 0 0 0 0) σ 0 [(0, .ref (zA G t)), (1, .int (iI how)), (2, .ref (zA G a)), (3, .ref (zA G b))] []
  rw [← hQ]
  refine z_aload_n C 2 d_n_bitwise_0 rfl ?_
  refine z_nget_n C d_n_bitwise_1 k_32 h_a ?_
  refine z_aload_n C 3 d_n_bitwise_4 rfl ?_
  refine z_nget_n C d_n_bitwise_5 k_32 h_b ?_
  obtain ⟨ok1, h⟩ := h
  obtain ⟨ok2, h⟩ := h
  refine z_max C d_n_bitwise_8 k_303 k_304 k_13 k_305 ok1 ok2 (Nat.le_of_ble_eq_true rfl) hroom_math ?_
  refine z_iconst C d_n_bitwise_11 ?_
  refine z_iadd C d_n_bitwise_12 ?_
  refine z_namei (fun v4_3 e4 => ?_)
  have h := h v4_3 e4
  refine z_istore C [(4, .int (iI v4_3)), (0, .ref (zA G t)), (1, .int (iI how)), (2, .ref (zA G a)), (3, .ref (zA G b))] d_n_bitwise_13 (by decide) rfl ?_
  refine z_iconst C d_n_bitwise_15 ?_
  refine z_istore C [(5, .int (iI 1)), (4, .int (iI v4_3)), (0, .ref (zA G t)), (1, .int (iI how)), (2, .ref (zA G a)), (3, .ref (zA G b))] d_n_bitwise_16 (by decide) rfl ?_
  refine z_iconst C d_n_bitwise_18 ?_
  refine z_istore C [(6, .int (iI 1)), (5, .int (iI 1)), (4, .int (iI v4_3)), (0, .ref (zA G t)), (1, .int (iI how)), (2, .ref (zA G a)), (3, .ref (zA G b))] d_n_bitwise_19 (by decide) rfl ?_
  refine z_iload_n C 4 d_n_bitwise_21 rfl ?_
  refine Jq1.walk (fun s5 => okI s5 → Z E G 13 0 0 Q σ 63 [(0, .ref (zA G t)), (1, .int (iI how)), (2, .ref (zA G a)), (3, .ref (zA G b)), (4, .int (iI v4_3)), (5, .int (iI 1)), (6, .int (iI 1))] [.int (iI s5)]) h ?_ ?_
  · intro s5 h ok6
    have hj : ∀ s9 : Int, s9 = (if 0 ≤ s5 then 0 else 1) → Z E G 13 0 0 Q σ 71 [(0, .ref (zA G t)), (1, .int (iI how)), (2, .ref (zA G a)), (3, .ref (zA G b)), (4, .int (iI v4_3)), (5, .int (iI 1)), (6, .int (iI 1))] [.int (iI s9)] := by
      intro s9 e10
      have h := h s9 e10
      have ok11 : okI s9 := by rw [e10]; split; exact (okI_lit rfl); exact (okI_lit rfl)
      refine z_istore C [(7, .int (iI s9)), (0, .ref (zA G t)), (1, .int (iI how)), (2, .ref (zA G a)), (3, .ref (zA G b)), (4, .int (iI v4_3)), (5, .int (iI 1)), (6, .int (iI 1))] d_n_bitwise_71 (by decide) rfl ?_
      refine z_iload_n C 2 d_n_bitwise_73 rfl ?_
      refine z_iconst C d_n_bitwise_74 ?_
      refine Jq1.walk (fun v7_12 => okI v7_12 → Z E G 13 0 0 Q σ 112 [(0, .ref (zA G t)), (1, .int (iI how)), (2, .ref (zA G a)), (3, .ref (zA G b)), (4, .int (iI v4_3)), (5, .int (iI 1)), (6, .int (iI 1)), (7, .int (iI v7_12))] []) h ?_ ?_
      · intro v7_12 h ok13
        refine z_iconst C d_n_bitwise_112 ?_
        refine z_istore C [(8, .int (iI 1)), (0, .ref (zA G t)), (1, .int (iI how)), (2, .ref (zA G a)), (3, .ref (zA G b)), (4, .int (iI v4_3)), (5, .int (iI 1)), (6, .int (iI 1)), (7, .int (iI v7_12))] d_n_bitwise_113 (by decide) rfl ?_
        refine z_iconst C d_n_bitwise_115 ?_
        refine z_istore C [(9, .int (iI 0)), (8, .int (iI 1)), (0, .ref (zA G t)), (1, .int (iI how)), (2, .ref (zA G a)), (3, .ref (zA G b)), (4, .int (iI v4_3)), (5, .int (iI 1)), (6, .int (iI 1)), (7, .int (iI v7_12))] d_n_bitwise_116 (by decide) rfl ?_
        refine z_sub [(0, .ref (zA G t)), (1, .int (iI how)), (2, .ref (zA G a)), (3, .ref (zA G b)), (4, .int (iI v4_3)), (5, .int (iI 1)), (6, .int (iI 1)), (7, .int (iI v7_12)), (8, .int (iI 1)), (9, .int (iI 0))] [2, 3, 4, 5, 6, 7, 8, 9, 1, 0] rfl ?_
        refine (Lo4.walk (P := fun v5_15 v6_16 v8_17 v9_18 σ19 => okI v5_15 → okI v6_16 → okI v8_17 → okI v9_18 → Z E G 13 0 0 Q σ19 118 [(0, .ref (zA G t)), (1, .int (iI how)), (2, .ref (zA G a)), (3, .ref (zA G b)), (4, .int (iI v4_3)), (5, .int (iI v5_15)), (6, .int (iI v6_16)), (7, .int (iI v7_12)), (8, .int (iI v8_17)), (9, .int (iI v9_18))] []) ?_ h) (okI_lit rfl) (okI_lit rfl) (okI_lit rfl) (okI_lit rfl)
        intro v5_15 v6_16 v8_17 v9_18 σ19 again24 Hagain24 h ok20 ok21 ok22 ok23
        refine z_iload C 9 d_n_bitwise_118 rfl ?_
        refine z_iload C 4 d_n_bitwise_120 rfl ?_
        obtain ⟨ok25, h⟩ := h
        refine z_icmp_ge C d_n_bitwise_122 ok23 ok25 (fun hb26 => ?_) (fun hb26 => ?_)
        · have h := h.1 hb26
          refine z_aload_n C 0 d_n_bitwise_273 rfl ?_
          refine z_iload C 4 d_n_bitwise_274 rfl ?_
          refine z_iload C 7 d_n_bitwise_276 rfl ?_
          have hj : ∀ s28 : Int, s28 = (if v7_12 = 0 then 1 else (-1)) → Z E G 13 0 0 Q σ19 286 [(0, .ref (zA G t)), (1, .int (iI how)), (2, .ref (zA G a)), (3, .ref (zA G b)), (4, .int (iI v4_3)), (5, .int (iI v5_15)), (6, .int (iI v6_16)), (7, .int (iI v7_12)), (8, .int (iI v8_17)), (9, .int (iI v9_18))] [.int (iI s28), .int (iI v4_3), .ref (zA G t)] := by
            intro s28 e29
            have h := h s28 e29
            have ok30 : okI s28 := by rw [e29]; split; exact (okI_lit rfl); exact (okI_lit rfl)
            refine z_callV C "LimbDesk$Num" [.int (iI v4_3), .int (iI s28)] [] 2 d_n_bitwise_286 (c_n_trim (zl E) G h h_t ok25 ok30) k_168 k_165 k_167 k_s2 k_2 (by decide) (recv_N C h_t) (by decide +kernel) rfl rfl (Nat.le_of_ble_eq_true rfl) hroom_n_trim (fun _r σ31 ok32 hq => ?_) (fun _ _ hx => hx.elim)
            have h := hq
            subst hQ
            exact z_return C d_n_bitwise_289.1 hr ⟨Nat.zero_le _, Nat.zero_le _⟩ h
          clear h
          refine z_if_eq C d_n_bitwise_278 ok13 (fun hb27 => ?_) (fun hb27 => ?_)
          · refine z_iconst C d_n_bitwise_285 ?_
            exact hj _ (if_pos hb27).symm
          · refine z_iconst C d_n_bitwise_281 ?_
            refine z_goto C d_n_bitwise_282 ?_
            exact hj _ (if_neg hb27).symm
        · have h := h.2 hb26
          refine z_aload_n C 2 d_n_bitwise_125 rfl ?_
          refine z_iload C 9 d_n_bitwise_126 rfl ?_
          refine z_iload C 5 d_n_bitwise_128 rfl ?_
          refine z_callS C [.ref (zA G a), .int (iI v9_18), .int (iI v5_15)] [] 3 d_n_bitwise_130 (c_n_endless (zl E) G h h_a ok23 ok20) k_373 k_371 k_372 k_2 (by decide)  (by decide +kernel) rfl rfl (Nat.le_of_ble_eq_true rfl) hroom_n_endless (fun r33 _s70 ok34 hq => ?_) (fun _ _ hx => hx.elim)
          obtain ⟨hs_, hk_⟩ := hq
          subst hs_
          have h := hk_
          refine z_istore C [(10, .int (iI r33)), (0, .ref (zA G t)), (1, .int (iI how)), (2, .ref (zA G a)), (3, .ref (zA G b)), (4, .int (iI v4_3)), (5, .int (iI v5_15)), (6, .int (iI v6_16)), (7, .int (iI v7_12)), (8, .int (iI v8_17)), (9, .int (iI v9_18))] d_n_bitwise_133 (by decide) rfl ?_
          refine z_aload_n C 4 d_n_bitwise_135 rfl ?_
          refine z_iload C 10 d_n_bitwise_136 rfl ?_
          refine z_iload C 7 d_n_bitwise_138 rfl ?_
          refine z_callS C [.ref (zA G b), .int (iI v9_18), .int (iI v6_16)] [] 3 d_n_bitwise_140 (c_n_endless (zl E) G h h_b ok23 ok21) k_373 k_371 k_372 k_2 (by decide)  (by decide +kernel) rfl rfl (Nat.le_of_ble_eq_true rfl) hroom_n_endless (fun r35 _s69 ok36 hq => ?_) (fun _ _ hx => hx.elim)
          obtain ⟨hs_, hk_⟩ := hq
          subst hs_
          have h := hk_
          refine z_istore C [(11, .int (iI r35)), (10, .int (iI r33)), (0, .ref (zA G t)), (1, .int (iI how)), (2, .ref (zA G a)), (3, .ref (zA G b)), (4, .int (iI v4_3)), (5, .int (iI v5_15)), (6, .int (iI v6_16)), (7, .int (iI v7_12)), (8, .int (iI v8_17)), (9, .int (iI v9_18))] d_n_bitwise_143 (by decide) rfl ?_
          refine z_iload_n C 3 d_n_bitwise_145 rfl ?_
          refine Jq1.walk (fun s37 => okI s37 → Z E G 13 0 0 Q σ19 175 [(0, .ref (zA G t)), (1, .int (iI how)), (2, .ref (zA G a)), (3, .ref (zA G b)), (4, .int (iI v4_3)), (5, .int (iI v5_15)), (6, .int (iI v6_16)), (7, .int (iI v7_12)), (8, .int (iI v8_17)), (9, .int (iI v9_18))] [.int (iI s37)]) h ?_ ?_
          · intro s37 h ok38
            refine z_istore C [(12, .int (iI s37)), (0, .ref (zA G t)), (1, .int (iI how)), (2, .ref (zA G a)), (3, .ref (zA G b)), (4, .int (iI v4_3)), (5, .int (iI v5_15)), (6, .int (iI v6_16)), (7, .int (iI v7_12)), (8, .int (iI v8_17)), (9, .int (iI v9_18))] d_n_bitwise_175 (by decide) rfl ?_
            refine z_iload C 10 d_n_bitwise_177 rfl ?_
            refine z_aload_n C 3 d_n_bitwise_179 rfl ?_
            refine z_nget_n C d_n_bitwise_180 k_32 h_a ?_
            obtain ⟨ok40, h⟩ := h
            refine Jq1.walk (fun v5_41 => okI v5_41 → Z E G 13 0 0 Q σ19 199 [(0, .ref (zA G t)), (1, .int (iI how)), (2, .ref (zA G a)), (3, .ref (zA G b)), (4, .int (iI v4_3)), (5, .int (iI v5_41)), (6, .int (iI v6_16)), (7, .int (iI v7_12)), (8, .int (iI v8_17)), (9, .int (iI v9_18)), (12, .int (iI s37))] []) h ?_ ?_
            · intro v5_41 h ok42
              refine z_iload C 9 d_n_bitwise_199 rfl ?_
              refine z_aload_n C 3 d_n_bitwise_201 rfl ?_
              refine z_nget_n C d_n_bitwise_202 k_32 h_b ?_
              obtain ⟨ok44, h⟩ := h
              refine Jq1.walk (fun v6_45 => okI v6_45 → Z E G 13 0 0 Q σ19 221 [(0, .ref (zA G t)), (1, .int (iI how)), (2, .ref (zA G a)), (3, .ref (zA G b)), (4, .int (iI v4_3)), (5, .int (iI v5_41)), (6, .int (iI v6_45)), (7, .int (iI v7_12)), (8, .int (iI v8_17)), (9, .int (iI v9_18)), (12, .int (iI s37))] []) h ?_ ?_
              · intro v6_45 h ok46
                refine z_aload_n C 0 d_n_bitwise_221 rfl ?_
                refine z_nget_d C d_n_bitwise_222 k_30 h_t ?_
                refine z_iload C 9 d_n_bitwise_225 rfl ?_
                refine z_iload C 7 d_n_bitwise_227 rfl ?_
                refine Jq1.walk (fun s48 => okI s48 → Z E G 13 0 0 Q σ19 258 [(0, .ref (zA G t)), (1, .int (iI how)), (2, .ref (zA G a)), (3, .ref (zA G b)), (4, .int (iI v4_3)), (5, .int (iI v5_41)), (6, .int (iI v6_45)), (7, .int (iI v7_12)), (8, .int (iI v8_17)), (9, .int (iI v9_18)), (12, .int (iI s37))] [.int (iI s48), .int (iI v9_18), .ref (zA G (21 + t))]) h ?_ ?_
                · intro s48 h ok49
                  obtain ⟨hc51, h⟩ := h
                  refine z_iastN C (600) d_n_bitwise_258 (isN.A h_t) (ln_num h_t) hc51 ?_
                  refine z_iload C 10 d_n_bitwise_259 rfl ?_
                  refine Jq1.walk (fun v8_52 => okI v8_52 → Z E G 13 0 0 Q (mS σ19 (21 + t) v9_18 s48) 267 [(0, .ref (zA G t)), (1, .int (iI how)), (2, .ref (zA G a)), (3, .ref (zA G b)), (4, .int (iI v4_3)), (5, .int (iI v5_41)), (6, .int (iI v6_45)), (7, .int (iI v7_12)), (8, .int (iI v8_52)), (9, .int (iI v9_18))] []) h ?_ ?_
                  · intro v8_52 h ok53
                    refine z_iinc C 9 [(9, .int (iI (v9_18 + 1))), (0, .ref (zA G t)), (1, .int (iI how)), (2, .ref (zA G a)), (3, .ref (zA G b)), (4, .int (iI v4_3)), (5, .int (iI v5_41)), (6, .int (iI v6_45)), (7, .int (iI v7_12)), (8, .int (iI v8_52))] d_n_bitwise_267 rfl (by decide) rfl ?_
                    refine z_goto C d_n_bitwise_270 ?_
                    obtain ⟨ok55, h⟩ := h
                    refine z_sub [(0, .ref (zA G t)), (1, .int (iI how)), (2, .ref (zA G a)), (3, .ref (zA G b)), (4, .int (iI v4_3)), (5, .int (iI v5_41)), (6, .int (iI v6_45)), (7, .int (iI v7_12)), (8, .int (iI v8_52)), (9, .int (iI (v9_18 + 1)))] [1, 2, 3, 4, 5, 6, 7, 8, 9, 0] rfl ?_
                    exact Hagain24 _ _ _ _ _ h ok42 ok46 ok53 ok55
                  · intro J54 HJ54 h
                    refine z_if_eq C d_n_bitwise_261 ok38 (fun hb56 => ?_) (fun hb56 => ?_)
                    · have h := h.1 hb56
                      refine z_sub [(0, .ref (zA G t)), (1, .int (iI how)), (2, .ref (zA G a)), (3, .ref (zA G b)), (4, .int (iI v4_3)), (5, .int (iI v5_41)), (6, .int (iI v6_45)), (7, .int (iI v7_12)), (8, .int (iI v8_17)), (9, .int (iI v9_18))] [0, 1, 2, 3, 4, 5, 6, 7, 8, 9] rfl ?_
                      exact HJ54 _ h ok22
                    · have h := h.2 hb56
                      refine z_iconst C d_n_bitwise_264 ?_
                      refine z_istore C [(8, .int (iI 0)), (0, .ref (zA G t)), (1, .int (iI how)), (2, .ref (zA G a)), (3, .ref (zA G b)), (4, .int (iI v4_3)), (5, .int (iI v5_41)), (6, .int (iI v6_45)), (7, .int (iI v7_12)), (9, .int (iI v9_18)), (12, .int (iI s37))] d_n_bitwise_265 (by decide) rfl ?_
                      refine z_sub [(0, .ref (zA G t)), (1, .int (iI how)), (2, .ref (zA G a)), (3, .ref (zA G b)), (4, .int (iI v4_3)), (5, .int (iI v5_41)), (6, .int (iI v6_45)), (7, .int (iI v7_12)), (8, .int (iI 0)), (9, .int (iI v9_18))] [1, 2, 3, 4, 5, 6, 7, 8, 0, 9] rfl ?_
                      exact HJ54 _ h (okI_lit rfl)
                · intro J50 HJ50 h
                  refine z_if_ne C d_n_bitwise_229 ok13 (fun hb57 => ?_) (fun hb57 => ?_)
                  · have h := h.1 hb57
                    refine z_iload C 8 d_n_bitwise_237 rfl ?_
                    refine z_if_eq C d_n_bitwise_239 ok22 (fun hb58 => ?_) (fun hb58 => ?_)
                    · have h := h.1 hb58
                      refine z_iload C 10 d_n_bitwise_251 rfl ?_
                      refine z_iconst C d_n_bitwise_253 ?_
                      refine z_inot C d_n_bitwise_254 ?_
                      refine z_ldc C d_n_bitwise_255 k_261 (n := 16777215) (by decide) ?_
                      refine z_imask C 24 16777216 d_n_bitwise_257 (by decide) (by decide) (by decide) ?_
                      refine z_sub [(0, .ref (zA G t)), (1, .int (iI how)), (2, .ref (zA G a)), (3, .ref (zA G b)), (4, .int (iI v4_3)), (5, .int (iI v5_41)), (6, .int (iI v6_45)), (7, .int (iI v7_12)), (8, .int (iI v8_17)), (9, .int (iI v9_18)), (12, .int (iI s37))] [0, 1, 2, 3, 4, 5, 6, 7, 8, 9, 10] rfl ?_
                      exact HJ50 _ h (okI_mod (by decide) (by decide))
                    · have h := h.2 hb58
                      refine z_iload C 10 d_n_bitwise_242 rfl ?_
                      refine z_ineg C d_n_bitwise_244 ?_
                      refine z_ldc C d_n_bitwise_245 k_261 (n := 16777215) (by decide) ?_
                      refine z_imask C 24 16777216 d_n_bitwise_247 (by decide) (by decide) (by decide) ?_
                      refine z_goto C d_n_bitwise_248 ?_
                      refine z_sub [(0, .ref (zA G t)), (1, .int (iI how)), (2, .ref (zA G a)), (3, .ref (zA G b)), (4, .int (iI v4_3)), (5, .int (iI v5_41)), (6, .int (iI v6_45)), (7, .int (iI v7_12)), (8, .int (iI v8_17)), (9, .int (iI v9_18)), (12, .int (iI s37))] [0, 1, 2, 3, 4, 5, 6, 7, 8, 9, 10] rfl ?_
                      exact HJ50 _ h (okI_mod (by decide) (by decide))
                  · have h := h.2 hb57
                    refine z_iload C 10 d_n_bitwise_232 rfl ?_
                    refine z_goto C d_n_bitwise_234 ?_
                    refine z_sub [(0, .ref (zA G t)), (1, .int (iI how)), (2, .ref (zA G a)), (3, .ref (zA G b)), (4, .int (iI v4_3)), (5, .int (iI v5_41)), (6, .int (iI v6_45)), (7, .int (iI v7_12)), (8, .int (iI v8_17)), (9, .int (iI v9_18)), (12, .int (iI s37))] [0, 1, 2, 3, 4, 5, 6, 7, 8, 9, 10] rfl ?_
                    exact HJ50 _ h ok38
              · intro J47 HJ47 h
                refine z_icmp_ge C d_n_bitwise_205 ok23 ok44 (fun hb59 => ?_) (fun hb59 => ?_)
                · have h := h.1 hb59
                  refine z_sub [(0, .ref (zA G t)), (1, .int (iI how)), (2, .ref (zA G a)), (3, .ref (zA G b)), (4, .int (iI v4_3)), (5, .int (iI v5_41)), (6, .int (iI v6_16)), (7, .int (iI v7_12)), (8, .int (iI v8_17)), (9, .int (iI v9_18)), (12, .int (iI s37))] [0, 1, 2, 3, 4, 5, 6, 7, 8, 9, 10] rfl ?_
                  exact HJ47 _ h ok21
                · have h := h.2 hb59
                  refine z_aload_n C 3 d_n_bitwise_208 rfl ?_
                  refine z_nget_d C d_n_bitwise_209 k_30 h_b ?_
                  refine z_iload C 9 d_n_bitwise_212 rfl ?_
                  obtain ⟨hc60, h⟩ := h
                  refine z_ialdN C (600) d_n_bitwise_214 (isN.A h_b) (ln_num h_b) hc60 ?_
                  obtain ⟨ok61, h⟩ := h
                  refine z_if_eq C d_n_bitwise_215 ok61 (fun hb62 => ?_) (fun hb62 => ?_)
                  · have h := h.1 hb62
                    refine z_sub [(0, .ref (zA G t)), (1, .int (iI how)), (2, .ref (zA G a)), (3, .ref (zA G b)), (4, .int (iI v4_3)), (5, .int (iI v5_41)), (6, .int (iI v6_16)), (7, .int (iI v7_12)), (8, .int (iI v8_17)), (9, .int (iI v9_18)), (12, .int (iI s37))] [0, 1, 2, 3, 4, 5, 6, 7, 8, 9, 10] rfl ?_
                    exact HJ47 _ h ok21
                  · have h := h.2 hb62
                    refine z_iconst C d_n_bitwise_218 ?_
                    refine z_istore C [(6, .int (iI 0)), (0, .ref (zA G t)), (1, .int (iI how)), (2, .ref (zA G a)), (3, .ref (zA G b)), (4, .int (iI v4_3)), (5, .int (iI v5_41)), (7, .int (iI v7_12)), (8, .int (iI v8_17)), (9, .int (iI v9_18)), (12, .int (iI s37))] d_n_bitwise_219 (by decide) rfl ?_
                    refine z_sub [(0, .ref (zA G t)), (1, .int (iI how)), (2, .ref (zA G a)), (3, .ref (zA G b)), (4, .int (iI v4_3)), (5, .int (iI v5_41)), (6, .int (iI 0)), (7, .int (iI v7_12)), (8, .int (iI v8_17)), (9, .int (iI v9_18)), (12, .int (iI s37))] [1, 2, 3, 4, 5, 6, 0, 7, 8, 9, 10] rfl ?_
                    exact HJ47 _ h (okI_lit rfl)
            · intro J43 HJ43 h
              refine z_icmp_ge C d_n_bitwise_183 ok23 ok40 (fun hb63 => ?_) (fun hb63 => ?_)
              · have h := h.1 hb63
                refine z_sub [(0, .ref (zA G t)), (1, .int (iI how)), (2, .ref (zA G a)), (3, .ref (zA G b)), (4, .int (iI v4_3)), (5, .int (iI v5_15)), (6, .int (iI v6_16)), (7, .int (iI v7_12)), (8, .int (iI v8_17)), (9, .int (iI v9_18)), (12, .int (iI s37))] [1, 2, 3, 4, 5, 6, 7, 8, 9, 10, 0] rfl ?_
                exact HJ43 _ h ok20
              · have h := h.2 hb63
                refine z_aload_n C 3 d_n_bitwise_186 rfl ?_
                refine z_nget_d C d_n_bitwise_187 k_30 h_a ?_
                refine z_iload C 10 d_n_bitwise_190 rfl ?_
                obtain ⟨hc64, h⟩ := h
                refine z_ialdN C (600) d_n_bitwise_192 (isN.A h_a) (ln_num h_a) hc64 ?_
                obtain ⟨ok65, h⟩ := h
                refine z_if_eq C d_n_bitwise_193 ok65 (fun hb66 => ?_) (fun hb66 => ?_)
                · have h := h.1 hb66
                  refine z_sub [(0, .ref (zA G t)), (1, .int (iI how)), (2, .ref (zA G a)), (3, .ref (zA G b)), (4, .int (iI v4_3)), (5, .int (iI v5_15)), (6, .int (iI v6_16)), (7, .int (iI v7_12)), (8, .int (iI v8_17)), (9, .int (iI v9_18)), (12, .int (iI s37))] [1, 2, 3, 4, 5, 6, 7, 8, 9, 10, 0] rfl ?_
                  exact HJ43 _ h ok20
                · have h := h.2 hb66
                  refine z_iconst C d_n_bitwise_196 ?_
                  refine z_istore C [(5, .int (iI 0)), (12, .int (iI s37)), (0, .ref (zA G t)), (1, .int (iI how)), (2, .ref (zA G a)), (3, .ref (zA G b)), (4, .int (iI v4_3)), (6, .int (iI v6_16)), (7, .int (iI v7_12)), (8, .int (iI v8_17)), (9, .int (iI v9_18))] d_n_bitwise_197 (by decide) rfl ?_
                  refine z_sub [(0, .ref (zA G t)), (1, .int (iI how)), (2, .ref (zA G a)), (3, .ref (zA G b)), (4, .int (iI v4_3)), (5, .int (iI 0)), (6, .int (iI v6_16)), (7, .int (iI v7_12)), (8, .int (iI v8_17)), (9, .int (iI v9_18)), (12, .int (iI s37))] [2, 3, 4, 5, 6, 0, 7, 8, 9, 10, 1] rfl ?_
                  exact HJ43 _ h (okI_lit rfl)
          · intro J39 HJ39 h
            refine z_if_ne C d_n_bitwise_146 h_how (fun hb67 => ?_) (fun hb67 => ?_)
            · have h := h.1 hb67
              refine z_iload_n C 3 d_n_bitwise_157 rfl ?_
              refine z_iconst C d_n_bitwise_158 ?_
              refine z_icmp_ne C d_n_bitwise_159 h_how (okI_lit rfl) (fun hb68 => ?_) (fun hb68 => ?_)
              · have h := h.1 hb68
                refine z_iload C 1 d_n_bitwise_170 rfl ?_
                refine z_iload C 0 d_n_bitwise_172 rfl ?_
                refine z_ixor C d_n_bitwise_174 ?_
                refine z_sub [(0, .ref (zA G t)), (1, .int (iI how)), (2, .ref (zA G a)), (3, .ref (zA G b)), (4, .int (iI v4_3)), (5, .int (iI v5_15)), (6, .int (iI v6_16)), (7, .int (iI v7_12)), (8, .int (iI v8_17)), (9, .int (iI v9_18))] [2, 3, 4, 5, 6, 7, 8, 9, 10, 11] rfl ?_
                exact HJ39 _ h (okI_xo _ _)
              · have h := h.2 hb68
                refine z_iload C 1 d_n_bitwise_162 rfl ?_
                refine z_iload C 0 d_n_bitwise_164 rfl ?_
                refine z_ior C d_n_bitwise_166 ?_
                refine z_goto C d_n_bitwise_167 ?_
                refine z_sub [(0, .ref (zA G t)), (1, .int (iI how)), (2, .ref (zA G a)), (3, .ref (zA G b)), (4, .int (iI v4_3)), (5, .int (iI v5_15)), (6, .int (iI v6_16)), (7, .int (iI v7_12)), (8, .int (iI v8_17)), (9, .int (iI v9_18))] [2, 3, 4, 5, 6, 7, 8, 9, 10, 11] rfl ?_
                exact HJ39 _ h (okI_or _ _)
            · have h := h.2 hb67
              refine z_iload C 1 d_n_bitwise_149 rfl ?_
              refine z_iload C 0 d_n_bitwise_151 rfl ?_
              refine z_iand C d_n_bitwise_153 ?_
              refine z_goto C d_n_bitwise_154 ?_
              refine z_sub [(0, .ref (zA G t)), (1, .int (iI how)), (2, .ref (zA G a)), (3, .ref (zA G b)), (4, .int (iI v4_3)), (5, .int (iI v5_15)), (6, .int (iI v6_16)), (7, .int (iI v7_12)), (8, .int (iI v8_17)), (9, .int (iI v9_18))] [2, 3, 4, 5, 6, 7, 8, 9, 10, 11] rfl ?_
              exact HJ39 _ h (okI_an _ _)
      · intro J14 HJ14 h
        refine z_icmp_ne C d_n_bitwise_75 h_how (okI_lit rfl) (fun hb71 => ?_) (fun hb71 => ?_)
        · have h := h.1 hb71
          refine z_sub [(0, .ref (zA G t)), (1, .int (iI how)), (2, .ref (zA G a)), (3, .ref (zA G b)), (4, .int (iI v4_3)), (5, .int (iI 1)), (6, .int (iI 1)), (7, .int (iI s9))] [1, 2, 3, 4, 5, 6, 7, 0] rfl ?_
          exact HJ14 _ h ok11
        · have h := h.2 hb71
          refine z_aload_n C 3 d_n_bitwise_78 rfl ?_
          refine z_nget_sign C d_n_bitwise_79 k_33 h_a ?_
          obtain ⟨ok72, h⟩ := h
          have hj : ∀ s74 : Int, s74 = (if 0 ≤ (σ a 2) then 0 else 1) → Z E G 13 0 0 Q σ 90 [(7, .int (iI s9)), (0, .ref (zA G t)), (1, .int (iI how)), (2, .ref (zA G a)), (3, .ref (zA G b)), (4, .int (iI v4_3)), (5, .int (iI 1)), (6, .int (iI 1))] [.int (iI s74)] := by
            intro s74 e75
            have h := h s74 e75
            have ok76 : okI s74 := by rw [e75]; split; exact (okI_lit rfl); exact (okI_lit rfl)
            refine z_aload_n C 4 d_n_bitwise_90 rfl ?_
            refine z_nget_sign C d_n_bitwise_91 k_33 h_b ?_
            obtain ⟨ok77, h⟩ := h
            have hj : ∀ s79 : Int, s79 = (if 0 ≤ (σ b 2) then 0 else 1) → Z E G 13 0 0 Q σ 102 [(7, .int (iI s9)), (0, .ref (zA G t)), (1, .int (iI how)), (2, .ref (zA G a)), (3, .ref (zA G b)), (4, .int (iI v4_3)), (5, .int (iI 1)), (6, .int (iI 1))] [.int (iI s79), .int (iI s74)] := by
              intro s79 e80
              have h := h s79 e80
              have ok81 : okI s79 := by rw [e80]; split; exact (okI_lit rfl); exact (okI_lit rfl)
              have hj : ∀ s83 : Int, s83 = (if s74 = s79 then 0 else 1) → Z E G 13 0 0 Q σ 110 [(7, .int (iI s9)), (0, .ref (zA G t)), (1, .int (iI how)), (2, .ref (zA G a)), (3, .ref (zA G b)), (4, .int (iI v4_3)), (5, .int (iI 1)), (6, .int (iI 1))] [.int (iI s83)] := by
                intro s83 e84
                have h := h s83 e84
                have ok85 : okI s83 := by rw [e84]; split; exact (okI_lit rfl); exact (okI_lit rfl)
                refine z_istore C [(7, .int (iI s83)), (0, .ref (zA G t)), (1, .int (iI how)), (2, .ref (zA G a)), (3, .ref (zA G b)), (4, .int (iI v4_3)), (5, .int (iI 1)), (6, .int (iI 1))] d_n_bitwise_110 (by decide) rfl ?_
                refine z_sub [(0, .ref (zA G t)), (1, .int (iI how)), (2, .ref (zA G a)), (3, .ref (zA G b)), (4, .int (iI v4_3)), (5, .int (iI 1)), (6, .int (iI 1)), (7, .int (iI s83))] [1, 2, 3, 4, 5, 6, 7, 0] rfl ?_
                exact HJ14 _ h ok85
              clear h
              refine z_icmp_eq C d_n_bitwise_102 ok76 ok81 (fun hb82 => ?_) (fun hb82 => ?_)
              · refine z_iconst C d_n_bitwise_109 ?_
                exact hj _ (if_pos hb82).symm
              · refine z_iconst C d_n_bitwise_105 ?_
                refine z_goto C d_n_bitwise_106 ?_
                exact hj _ (if_neg hb82).symm
            clear h
            refine z_if_ge C d_n_bitwise_94 ok77 (fun hb78 => ?_) (fun hb78 => ?_)
            · refine z_iconst C d_n_bitwise_101 ?_
              exact hj _ (if_pos hb78).symm
            · refine z_iconst C d_n_bitwise_97 ?_
              refine z_goto C d_n_bitwise_98 ?_
              exact hj _ (if_neg (Int.not_le.mpr hb78)).symm
          clear h
          refine z_if_ge C d_n_bitwise_82 ok72 (fun hb73 => ?_) (fun hb73 => ?_)
          · refine z_iconst C d_n_bitwise_89 ?_
            exact hj _ (if_pos hb73).symm
          · refine z_iconst C d_n_bitwise_85 ?_
            refine z_goto C d_n_bitwise_86 ?_
            exact hj _ (if_neg (Int.not_le.mpr hb73)).symm
    clear h
    refine z_if_ge C d_n_bitwise_63 ok6 (fun hb8 => ?_) (fun hb8 => ?_)
    · refine z_iconst C d_n_bitwise_70 ?_
      exact hj _ (if_pos hb8).symm
    · refine z_iconst C d_n_bitwise_66 ?_
      refine z_goto C d_n_bitwise_67 ?_
      exact hj _ (if_neg (Int.not_le.mpr hb8)).symm
  · intro J7 HJ7 h
    refine z_if_ne C d_n_bitwise_22 h_how (fun hb86 => ?_) (fun hb86 => ?_)
    · have h := h.1 hb86
      refine z_iload_n C 4 d_n_bitwise_37 rfl ?_
      refine z_iconst C d_n_bitwise_38 ?_
      refine z_icmp_ne C d_n_bitwise_39 h_how (okI_lit rfl) (fun hb87 => ?_) (fun hb87 => ?_)
      · have h := h.1 hb87
        refine z_aload_n C 5 d_n_bitwise_54 rfl ?_
        refine z_nget_sign C d_n_bitwise_55 k_33 h_a ?_
        refine z_aload_n C 6 d_n_bitwise_58 rfl ?_
        refine z_nget_sign C d_n_bitwise_59 k_33 h_b ?_
        refine z_ixor C d_n_bitwise_62 ?_
        refine z_sub [(0, .ref (zA G t)), (1, .int (iI how)), (2, .ref (zA G a)), (3, .ref (zA G b)), (4, .int (iI v4_3)), (5, .int (iI 1)), (6, .int (iI 1))] [3, 4, 5, 6, 2, 1, 0] rfl ?_
        exact HJ7 _ h (okI_xo _ _)
      · have h := h.2 hb87
        refine z_aload_n C 5 d_n_bitwise_42 rfl ?_
        refine z_nget_sign C d_n_bitwise_43 k_33 h_a ?_
        refine z_aload_n C 6 d_n_bitwise_46 rfl ?_
        refine z_nget_sign C d_n_bitwise_47 k_33 h_b ?_
        refine z_ior C d_n_bitwise_50 ?_
        refine z_goto C d_n_bitwise_51 ?_
        refine z_sub [(0, .ref (zA G t)), (1, .int (iI how)), (2, .ref (zA G a)), (3, .ref (zA G b)), (4, .int (iI v4_3)), (5, .int (iI 1)), (6, .int (iI 1))] [3, 4, 5, 6, 2, 1, 0] rfl ?_
        exact HJ7 _ h (okI_or _ _)
    · have h := h.2 hb86
      refine z_aload_n C 5 d_n_bitwise_25 rfl ?_
      refine z_nget_sign C d_n_bitwise_26 k_33 h_a ?_
      refine z_aload_n C 6 d_n_bitwise_29 rfl ?_
      refine z_nget_sign C d_n_bitwise_30 k_33 h_b ?_
      refine z_iand C d_n_bitwise_33 ?_
      refine z_goto C d_n_bitwise_34 ?_
      refine z_sub [(0, .ref (zA G t)), (1, .int (iI how)), (2, .ref (zA G a)), (3, .ref (zA G b)), (4, .int (iI v4_3)), (5, .int (iI 1)), (6, .int (iI 1))] [3, 4, 5, 6, 2, 1, 0] rfl ?_
      exact HJ7 _ h (okI_an _ _)
theorem d_n_power_0 : DD b_n_power 0 (.aload_n 0) 1 1 := ⟨by decide +kernel, rfl⟩
theorem d_n_power_1 : DD b_n_power 1 (.lconst 1) 1 2 := ⟨by decide +kernel, rfl⟩
theorem d_n_power_2 : DD b_n_power 2 (.invokevirtual 66) 3 5 := ⟨by decide +kernel, rfl⟩
theorem d_n_power_5 : DD b_n_power 5 (.aload_n 1) 1 6 := ⟨by decide +kernel, rfl⟩
theorem d_n_power_6 : DD b_n_power 6 (.invokevirtual 26) 3 9 := ⟨by decide +kernel, rfl⟩
theorem d_n_power_9 : DD b_n_power 9 (.iconst 2) 1 10 := ⟨by decide +kernel, rfl⟩
theorem d_n_power_10 : DB b_n_power 10 (.if_icmp .ge 39) 39 13 49 := ⟨by decide +kernel, rfl, rfl⟩
theorem d_n_power_13 : DD b_n_power 13 (.lload_n 2) 1 14 := ⟨by decide +kernel, rfl⟩
theorem d_n_power_14 : DD b_n_power 14 (.lconst 0) 1 15 := ⟨by decide +kernel, rfl⟩
theorem d_n_power_15 : DD b_n_power 15 .lcmp 1 16 := ⟨by decide +kernel, rfl⟩
theorem d_n_power_16 : DB b_n_power 16 (.ifCond .le 31) 31 19 47 := ⟨by decide +kernel, rfl, rfl⟩
theorem d_n_power_19 : DD b_n_power 19 (.aload_n 0) 1 20 := ⟨by decide +kernel, rfl⟩
theorem d_n_power_20 : DD b_n_power 20 (.aload_n 1) 1 21 := ⟨by decide +kernel, rfl⟩
theorem d_n_power_21 : DD b_n_power 21 (.getfield 17) 3 24 := ⟨by decide +kernel, rfl⟩
theorem d_n_power_24 : DB b_n_power 24 (.ifCond .ge 15) 15 27 39 := ⟨by decide +kernel, rfl, rfl⟩
theorem d_n_power_27 : DD b_n_power 27 (.lload_n 2) 1 28 := ⟨by decide +kernel, rfl⟩
theorem d_n_power_28 : DD b_n_power 28 (.lconst 1) 1 29 := ⟨by decide +kernel, rfl⟩
theorem d_n_power_29 : DD b_n_power 29 .land 1 30 := ⟨by decide +kernel, rfl⟩
theorem d_n_power_30 : DD b_n_power 30 (.lconst 0) 1 31 := ⟨by decide +kernel, rfl⟩
theorem d_n_power_31 : DD b_n_power 31 .lcmp 1 32 := ⟨by decide +kernel, rfl⟩
theorem d_n_power_32 : DB b_n_power 32 (.ifCond .ne 7) 7 35 39 := ⟨by decide +kernel, rfl, rfl⟩
theorem d_n_power_35 : DD b_n_power 35 (.lconst 1) 1 36 := ⟨by decide +kernel, rfl⟩
theorem d_n_power_36 : DB b_n_power 36 (.goto 8) 8 39 44 := ⟨by decide +kernel, rfl, rfl⟩
theorem d_n_power_39 : DD b_n_power 39 (.aload_n 1) 1 40 := ⟨by decide +kernel, rfl⟩
theorem d_n_power_40 : DD b_n_power 40 (.getfield 17) 3 43 := ⟨by decide +kernel, rfl⟩
theorem d_n_power_43 : DD b_n_power 43 .i2l 1 44 := ⟨by decide +kernel, rfl⟩
theorem d_n_power_44 : DD b_n_power 44 (.invokevirtual 66) 3 47 := ⟨by decide +kernel, rfl⟩
theorem d_n_power_47 : DD b_n_power 47 (.iconst 1) 1 48 := ⟨by decide +kernel, rfl⟩
theorem d_n_power_48 : DD b_n_power 48 .ireturn 1 49 := ⟨by decide +kernel, rfl⟩
theorem d_n_power_49 : DD b_n_power 49 (.lload_n 2) 1 50 := ⟨by decide +kernel, rfl⟩
theorem d_n_power_50 : DD b_n_power 50 (.iload 4) 2 52 := ⟨by decide +kernel, rfl⟩
theorem d_n_power_52 : DD b_n_power 52 .i2l 1 53 := ⟨by decide +kernel, rfl⟩
theorem d_n_power_53 : DD b_n_power 53 .lcmp 1 54 := ⟨by decide +kernel, rfl⟩
theorem d_n_power_54 : DB b_n_power 54 (.ifCond .le 5) 5 57 59 := ⟨by decide +kernel, rfl, rfl⟩
theorem d_n_power_57 : DD b_n_power 57 (.iconst 0) 1 58 := ⟨by decide +kernel, rfl⟩
theorem d_n_power_58 : DD b_n_power 58 .ireturn 1 59 := ⟨by decide +kernel, rfl⟩
theorem d_n_power_59 : DD b_n_power 59 (.bipush 63) 2 61 := ⟨by decide +kernel, rfl⟩
theorem d_n_power_61 : DD b_n_power 61 (.lload_n 2) 1 62 := ⟨by decide +kernel, rfl⟩
theorem d_n_power_62 : DD b_n_power 62 (.lconst 1) 1 63 := ⟨by decide +kernel, rfl⟩
theorem d_n_power_63 : DD b_n_power 63 .lor 1 64 := ⟨by decide +kernel, rfl⟩
theorem d_n_power_64 : DD b_n_power 64 (.invokestatic 92) 3 67 := ⟨by decide +kernel, rfl⟩
theorem d_n_power_67 : DD b_n_power 67 .isub 1 68 := ⟨by decide +kernel, rfl⟩
theorem d_n_power_68 : DD b_n_power 68 (.istore 6) 2 70 := ⟨by decide +kernel, rfl⟩
theorem d_n_power_70 : DD b_n_power 70 (.iload 6) 2 72 := ⟨by decide +kernel, rfl⟩
theorem d_n_power_72 : DB b_n_power 72 (.ifCond .lt 57) 57 75 129 := ⟨by decide +kernel, rfl, rfl⟩
theorem d_n_power_75 : DD b_n_power 75 (.aload 5) 2 77 := ⟨by decide +kernel, rfl⟩
theorem d_n_power_77 : DD b_n_power 77 (.aload_n 0) 1 78 := ⟨by decide +kernel, rfl⟩
theorem d_n_power_78 : DD b_n_power 78 (.aload_n 0) 1 79 := ⟨by decide +kernel, rfl⟩
theorem d_n_power_79 : DD b_n_power 79 (.invokevirtual 97) 3 82 := ⟨by decide +kernel, rfl⟩
theorem d_n_power_82 : DD b_n_power 82 (.aload_n 0) 1 83 := ⟨by decide +kernel, rfl⟩
theorem d_n_power_83 : DD b_n_power 83 (.aload 5) 2 85 := ⟨by decide +kernel, rfl⟩
theorem d_n_power_85 : DD b_n_power 85 (.invokevirtual 62) 3 88 := ⟨by decide +kernel, rfl⟩
theorem d_n_power_88 : DD b_n_power 88 (.lload_n 2) 1 89 := ⟨by decide +kernel, rfl⟩
theorem d_n_power_89 : DD b_n_power 89 (.iload 6) 2 91 := ⟨by decide +kernel, rfl⟩
theorem d_n_power_91 : DD b_n_power 91 .lshr 1 92 := ⟨by decide +kernel, rfl⟩
theorem d_n_power_92 : DD b_n_power 92 (.lconst 1) 1 93 := ⟨by decide +kernel, rfl⟩
theorem d_n_power_93 : DD b_n_power 93 .land 1 94 := ⟨by decide +kernel, rfl⟩
theorem d_n_power_94 : DD b_n_power 94 (.lconst 1) 1 95 := ⟨by decide +kernel, rfl⟩
theorem d_n_power_95 : DD b_n_power 95 .lcmp 1 96 := ⟨by decide +kernel, rfl⟩
theorem d_n_power_96 : DB b_n_power 96 (.ifCond .ne 16) 16 99 112 := ⟨by decide +kernel, rfl, rfl⟩
theorem d_n_power_99 : DD b_n_power 99 (.aload 5) 2 101 := ⟨by decide +kernel, rfl⟩
theorem d_n_power_101 : DD b_n_power 101 (.aload_n 0) 1 102 := ⟨by decide +kernel, rfl⟩
theorem d_n_power_102 : DD b_n_power 102 (.aload_n 1) 1 103 := ⟨by decide +kernel, rfl⟩
theorem d_n_power_103 : DD b_n_power 103 (.invokevirtual 97) 3 106 := ⟨by decide +kernel, rfl⟩
theorem d_n_power_106 : DD b_n_power 106 (.aload_n 0) 1 107 := ⟨by decide +kernel, rfl⟩
theorem d_n_power_107 : DD b_n_power 107 (.aload 5) 2 109 := ⟨by decide +kernel, rfl⟩
theorem d_n_power_109 : DD b_n_power 109 (.invokevirtual 62) 3 112 := ⟨by decide +kernel, rfl⟩
theorem d_n_power_112 : DD b_n_power 112 (.aload_n 0) 1 113 := ⟨by decide +kernel, rfl⟩
theorem d_n_power_113 : DD b_n_power 113 (.invokevirtual 26) 3 116 := ⟨by decide +kernel, rfl⟩
theorem d_n_power_116 : DD b_n_power 116 (.iload 4) 2 118 := ⟨by decide +kernel, rfl⟩
theorem d_n_power_118 : DB b_n_power 118 (.if_icmp .le 5) 5 121 123 := ⟨by decide +kernel, rfl, rfl⟩
theorem d_n_power_121 : DD b_n_power 121 (.iconst 0) 1 122 := ⟨by decide +kernel, rfl⟩
theorem d_n_power_122 : DD b_n_power 122 .ireturn 1 123 := ⟨by decide +kernel, rfl⟩
theorem d_n_power_123 : DD b_n_power 123 (.iinc 6 (-1)) 3 126 := ⟨by decide +kernel, rfl⟩
theorem d_n_power_126 : DB b_n_power 126 (.goto (-56)) (-56) 129 70 := ⟨by decide +kernel, rfl, rfl⟩
theorem d_n_power_129 : DD b_n_power 129 (.iconst 1) 1 130 := ⟨by decide +kernel, rfl⟩
theorem d_n_power_130 : DD b_n_power 130 .ireturn 1 131 := ⟨by decide +kernel, rfl⟩
set_option maxRecDepth 20000 in
set_option maxHeartbeats 4000000 in
theorem c_n_power (l : Launch) (G : ZG) {t a pw most work : Int} {σ : Mem} {K : Int → Mem → Prop} (h : wp_n_power t a pw most work σ K) (h_t : isN t) (h_a : isN a) (h_pw : okL pw) (h_most : okI most) (h_work : isN work) : Ct l G y_n_power (.code y_n_power b_n_power 7 (some .boolean)) { frames := 2, cells := 0, slots := 0, locals := 53 } 0 0 4 [.ref (zA G t), .ref (zA G a), .long (lL pw), .int (iI most), .ref (zA G work)] σ K (fun _ _ => False) := by
  unfold wp_n_power at h
  refine Ct.ofZ [(0, .ref (zA G t)), (1, .ref (zA G a)), (2, .long (lL pw)), (4, .int (iI most)), (5, .ref (zA G work))] "LimbDesk$Num" (by decide) rfl (Nat.le_of_ble_eq_true rfl) rfl ?_
  intro E hR hlE C hr hX
  subst hlE
  have hroom_jL_nlz : 1 + 1 ≤ (zR E).frames ∧ 8 + (3 + 11) + 21 ≤ (zR E).locals ∧ 0 + 0 ≤ (zR E).cells ∧ 0 + 0 ≤ (zR E).slots := by rw [hR]; decide
  have hroom_n_bits : 1 + 1 ≤ (zR E).frames ∧ 8 + (1 + 11) + 21 ≤ (zR E).locals ∧ 0 + 0 ≤ (zR E).cells ∧ 0 + 0 ≤ (zR E).slots := by rw [hR]; decide
  have hroom_n_product : 1 + 1 ≤ (zR E).frames ∧ 8 + (12 + 11) + 22 ≤ (zR E).locals ∧ 0 + 0 ≤ (zR E).cells ∧ 0 + 0 ≤ (zR E).slots := by rw [hR]; decide
  have hroom_n_set : 1 + 1 ≤ (zR E).frames ∧ 8 + (6 + 11) + 22 ≤ (zR E).locals ∧ 0 + 0 ≤ (zR E).cells ∧ 0 + 0 ≤ (zR E).slots := by rw [hR]; decide
  have hroom_n_take : 0 + 1 ≤ (zR E).frames ∧ 8 + (3 + 11) + 0 ≤ (zR E).locals ∧ 0 + 0 ≤ (zR E).cells ∧ 0 + 0 ≤ (zR E).slots := by rw [hR]; decide
  clear hR
  obtain ⟨Q, hQ⟩ : ∃ Q, Q = MQX G (zb E) 4 K (fun _ _ => False) (zs E) 0 0 0 0 := ⟨_, rfl⟩
  show Z E G 7 0 0 (MQX G (zb E) 4 K (fun _ _ => False) (zs E) 0 0 0 0) σ 0 [(0, .ref (zA G t)), (1, .ref (zA G a)), (2, .long (lL pw)), (4, .int (iI most)), (5, .ref (zA G work))] []
  rw [← hQ]
  refine z_aload_n C 0 d_n_power_0 rfl ?_
  refine z_lconst C d_n_power_1 ?_
  refine z_callV C "LimbDesk$Num" [.long (lL 1)] [] 1 d_n_power_2 (c_n_set (zl E) G h h_t (okL_lit rfl)) k_163 k_333 k_161 k_162 k_2 (by decide) (recv_N C h_t) (by decide +kernel) rfl rfl (Nat.le_of_ble_eq_true rfl) hroom_n_set (fun _r σ1 ok2 hq => ?_) (fun _ _ hx => hx.elim)
  have h := hq
  refine z_aload_n C 1 d_n_power_5 rfl ?_
  refine z_callV C "LimbDesk$Num" [] [] 0 d_n_power_6 (c_n_bits (zl E) G h h_a) k_155 k_385 k_153 k_154 k_2 (by decide) (recv_N C h_a) (by decide +kernel) rfl rfl (Nat.le_of_ble_eq_true rfl) hroom_n_bits (fun r3 _s46 ok4 hq => ?_) (fun _ _ hx => hx.elim)
  obtain ⟨hs_, hk_⟩ := hq
  subst hs_
  have h := hk_
  refine z_iconst C d_n_power_9 ?_
  refine z_icmp_ge C d_n_power_10 ok4 (okI_lit rfl) (fun hb5 => ?_) (fun hb5 => ?_)
  · have h := h.1 hb5
    refine z_lload_n C 2 d_n_power_49 rfl ?_
    refine z_iload C 3 d_n_power_50 rfl ?_
    refine z_i2l C d_n_power_52 h_most ?_
    refine z_lcmp_le C d_n_power_53 d_n_power_54 h_pw h_most.L (fun hb6 => ?_) (fun hb6 => ?_)
    · have h := h.1 hb6
      refine z_bipush C d_n_power_59 (by decide) ?_
      refine z_lload_n C 2 d_n_power_61 rfl ?_
      refine z_lconst C d_n_power_62 ?_
      refine z_lor C d_n_power_63 ?_
      refine z_callS C [.long (lL (orL pw 1))] [.int (iI 63)] 1 d_n_power_64 (c_jL_nlz (zl E) G h (okL_or _ _)) k_388 k_386 k_387 k_14 (by decide)  (by decide +kernel) rfl rfl (Nat.le_of_ble_eq_true rfl) hroom_jL_nlz (fun r7 _s34 ok8 hq => ?_) (fun _ _ hx => hx.elim)
      obtain ⟨hs_, hk_⟩ := hq
      subst hs_
      have h := hk_
      refine z_isub C d_n_power_67 ?_
      refine z_namei (fun v6_9 e10 => ?_)
      have h := h v6_9 e10
      refine z_istore C [(6, .int (iI v6_9)), (0, .ref (zA G t)), (1, .ref (zA G a)), (2, .long (lL pw)), (4, .int (iI most)), (5, .ref (zA G work))] d_n_power_68 (by decide) rfl ?_
      obtain ⟨ok12, h⟩ := h
      refine z_sub [(0, .ref (zA G t)), (1, .ref (zA G a)), (2, .long (lL pw)), (4, .int (iI most)), (5, .ref (zA G work)), (6, .int (iI v6_9))] [1, 2, 3, 4, 5, 0] rfl ?_
      refine (Lo1.walk (P := fun v6_11 σ13 => okI v6_11 → Z E G 7 0 0 Q σ13 70 [(0, .ref (zA G t)), (1, .ref (zA G a)), (2, .long (lL pw)), (4, .int (iI most)), (5, .ref (zA G work)), (6, .int (iI v6_11))] []) ?_ h) ok12
      intro v6_11 σ13 again15 Hagain15 h ok14
      refine z_iload C 5 d_n_power_70 rfl ?_
      refine z_if_lt C d_n_power_72 ok14 (fun hb16 => ?_) (fun hb16 => ?_)
      · have h := h.1 hb16
        refine z_iconst C d_n_power_129 ?_
        subst hQ
        exact z_zreturn C d_n_power_130.1 hr ⟨Nat.zero_le _, Nat.zero_le _⟩ (Or.inr rfl) h
      · have h := h.2 hb16
        refine z_aload C 4 d_n_power_75 rfl ?_
        refine z_aload_n C 0 d_n_power_77 rfl ?_
        refine z_aload_n C 0 d_n_power_78 rfl ?_
        refine z_callV C "LimbDesk$Num" [.ref (zA G t), .ref (zA G t)] [] 2 d_n_power_79 (c_n_product (zl E) G h h_work h_t h_t) k_316 k_390 k_314 k_315 k_2 (by decide) (recv_N C h_work) (by decide +kernel) rfl rfl (Nat.le_of_ble_eq_true rfl) hroom_n_product (fun _r σ17 ok18 hq => ?_) (fun _ _ hx => hx.elim)
        have h := hq
        refine z_aload_n C 0 d_n_power_82 rfl ?_
        refine z_aload C 4 d_n_power_83 rfl ?_
        refine z_callV C "LimbDesk$Num" [.ref (zA G work)] [] 1 d_n_power_85 (c_n_take (zl E) G h h_t h_work) k_269 k_332 k_267 k_268 k_2 (by decide) (recv_N C h_t) (by decide +kernel) rfl rfl (Nat.le_of_ble_eq_true rfl) hroom_n_take (fun _r σ19 ok20 hq => ?_) (fun _ _ hx => hx.elim)
        have h := hq
        refine z_lload_n C 2 d_n_power_88 rfl ?_
        refine z_iload C 5 d_n_power_89 rfl ?_
        obtain ⟨hc21, h⟩ := h
        refine z_lshr C d_n_power_91 h_pw hc21 ?_
        refine z_lconst C d_n_power_92 ?_
        refine z_lmask C 1 2 d_n_power_93 (by decide) (by decide) (by decide) ?_
        refine z_lconst C d_n_power_94 ?_
        refine Jo0.walk (fun σ22 => Z E G 7 0 0 Q σ22 112 [(0, .ref (zA G t)), (1, .ref (zA G a)), (2, .long (lL pw)), (4, .int (iI most)), (5, .ref (zA G work)), (6, .int (iI v6_11))] []) h ?_ ?_
        · intro σ22 h
          refine z_aload_n C 0 d_n_power_112 rfl ?_
          refine z_callV C "LimbDesk$Num" [] [] 0 d_n_power_113 (c_n_bits (zl E) G h h_t) k_155 k_385 k_153 k_154 k_2 (by decide) (recv_N C h_t) (by decide +kernel) rfl rfl (Nat.le_of_ble_eq_true rfl) hroom_n_bits (fun r24 _s28 ok25 hq => ?_) (fun _ _ hx => hx.elim)
          obtain ⟨hs_, hk_⟩ := hq
          subst hs_
          have h := hk_
          refine z_iload C 3 d_n_power_116 rfl ?_
          refine z_icmp_le C d_n_power_118 ok25 h_most (fun hb26 => ?_) (fun hb26 => ?_)
          · have h := h.1 hb26
            refine z_iinc C 5 [(6, .int (iI (v6_11 + (-1)))), (0, .ref (zA G t)), (1, .ref (zA G a)), (2, .long (lL pw)), (4, .int (iI most)), (5, .ref (zA G work))] d_n_power_123 rfl (by decide) rfl ?_
            refine z_goto C d_n_power_126 ?_
            obtain ⟨ok27, h⟩ := h
            refine z_sub [(0, .ref (zA G t)), (1, .ref (zA G a)), (2, .long (lL pw)), (4, .int (iI most)), (5, .ref (zA G work)), (6, .int (iI (v6_11 + (-1))))] [1, 2, 3, 4, 5, 0] rfl ?_
            exact Hagain15 _ _ h ok27
          · have h := h.2 hb26
            refine z_iconst C d_n_power_121 ?_
            subst hQ
            exact z_zreturn C d_n_power_122.1 hr ⟨Nat.zero_le _, Nat.zero_le _⟩ (Or.inl rfl) h
        · intro J23 HJ23 h
          refine z_lcmp_ne C d_n_power_95 d_n_power_96 (okL_mod (by decide) (by decide)) (okL_lit rfl) (fun hb29 => ?_) (fun hb29 => ?_)
          · have h := h.1 hb29
            refine z_sub [(0, .ref (zA G t)), (1, .ref (zA G a)), (2, .long (lL pw)), (4, .int (iI most)), (5, .ref (zA G work)), (6, .int (iI v6_11))] [0, 1, 2, 3, 4, 5] rfl ?_
            exact HJ23 _ h
          · have h := h.2 hb29
            refine z_aload C 4 d_n_power_99 rfl ?_
            refine z_aload_n C 0 d_n_power_101 rfl ?_
            refine z_aload_n C 1 d_n_power_102 rfl ?_
            refine z_callV C "LimbDesk$Num" [.ref (zA G t), .ref (zA G a)] [] 2 d_n_power_103 (c_n_product (zl E) G h h_work h_t h_a) k_316 k_390 k_314 k_315 k_2 (by decide) (recv_N C h_work) (by decide +kernel) rfl rfl (Nat.le_of_ble_eq_true rfl) hroom_n_product (fun _r σ30 ok31 hq => ?_) (fun _ _ hx => hx.elim)
            have h := hq
            refine z_aload_n C 0 d_n_power_106 rfl ?_
            refine z_aload C 4 d_n_power_107 rfl ?_
            refine z_callV C "LimbDesk$Num" [.ref (zA G work)] [] 1 d_n_power_109 (c_n_take (zl E) G h h_t h_work) k_269 k_332 k_267 k_268 k_2 (by decide) (recv_N C h_t) (by decide +kernel) rfl rfl (Nat.le_of_ble_eq_true rfl) hroom_n_take (fun _r σ32 ok33 hq => ?_) (fun _ _ hx => hx.elim)
            have h := hq
            refine z_sub [(0, .ref (zA G t)), (1, .ref (zA G a)), (2, .long (lL pw)), (4, .int (iI most)), (5, .ref (zA G work)), (6, .int (iI v6_11))] [0, 1, 2, 3, 4, 5] rfl ?_
            exact HJ23 _ h
    · have h := h.2 hb6
      refine z_iconst C d_n_power_57 ?_
      subst hQ
      exact z_zreturn C d_n_power_58.1 hr ⟨Nat.zero_le _, Nat.zero_le _⟩ (Or.inl rfl) h
  · have h := h.2 hb5
    refine z_lload_n C 2 d_n_power_13 rfl ?_
    refine z_lconst C d_n_power_14 ?_
    refine z_lcmp_le C d_n_power_15 d_n_power_16 h_pw (okL_lit rfl) (fun hb35 => ?_) (fun hb35 => ?_)
    · have h := h.1 hb35
      refine z_iconst C d_n_power_47 ?_
      subst hQ
      exact z_zreturn C d_n_power_48.1 hr ⟨Nat.zero_le _, Nat.zero_le _⟩ (Or.inr rfl) h
    · have h := h.2 hb35
      refine z_aload_n C 0 d_n_power_19 rfl ?_
      refine z_aload_n C 1 d_n_power_20 rfl ?_
      refine z_nget_sign C d_n_power_21 k_33 h_a ?_
      obtain ⟨ok36, h⟩ := h
      refine Jq1.walk (fun s37 => Z E G 7 0 0 Q σ1 44 [] [.long (lL s37), .ref (zA G t)]) h ?_ ?_
      · intro s37 h
        obtain ⟨ok39, h⟩ := h
        refine z_callV C "LimbDesk$Num" [.long (lL s37)] [] 1 d_n_power_44 (c_n_set (zl E) G h h_t ok39) k_163 k_333 k_161 k_162 k_2 (by decide) (recv_N C h_t) (by decide +kernel) rfl rfl (Nat.le_of_ble_eq_true rfl) hroom_n_set (fun _r σ40 ok41 hq => ?_) (fun _ _ hx => hx.elim)
        have h := hq
        refine z_iconst C d_n_power_47 ?_
        subst hQ
        exact z_zreturn C d_n_power_48.1 hr ⟨Nat.zero_le _, Nat.zero_le _⟩ (Or.inr rfl) h
      · intro J38 HJ38 h
        refine Jq0.walk (Z E G 7 0 0 Q σ1 39 [(1, .ref (zA G a))] [.ref (zA G t)]) h ?_ ?_
        · intro h
          refine z_aload_n C 0 d_n_power_39 rfl ?_
          refine z_nget_sign C d_n_power_40 k_33 h_a ?_
          refine z_i2l C d_n_power_43 ok36 ?_
          refine z_sub [] [] rfl ?_
          exact HJ38 _ h
        · intro J42 HJ42 h
          refine z_if_ge C d_n_power_24 ok36 (fun hb43 => ?_) (fun hb43 => ?_)
          · have h := h.1 hb43
            refine z_sub [(1, .ref (zA G a))] [1] rfl ?_
            exact HJ42 h
          · have h := h.2 hb43
            refine z_lload_n C 2 d_n_power_27 rfl ?_
            refine z_lconst C d_n_power_28 ?_
            refine z_lmask C 1 2 d_n_power_29 (by decide) (by decide) (by decide) ?_
            refine z_lconst C d_n_power_30 ?_
            refine z_lcmp_ne0 C d_n_power_31 d_n_power_32 (okE_L (okL_mod (by decide) (by decide))) (fun hb45 => ?_) (fun hb45 => ?_)
            · have h := h.1 hb45
              refine z_sub [(1, .ref (zA G a))] [1] rfl ?_
              exact HJ42 h
            · have h := h.2 hb45
              refine z_lconst C d_n_power_35 ?_
              refine z_goto C d_n_power_36 ?_
              refine z_sub [] [] rfl ?_
              exact HJ38 _ h
theorem d_n_folded_0 : DD b_n_folded 0 (.ldc2_w 100) 3 3 := ⟨by decide +kernel, rfl⟩
theorem d_n_folded_3 : DD b_n_folded 3 (.lstore_n 1) 1 4 := ⟨by decide +kernel, rfl⟩
theorem d_n_folded_4 : DD b_n_folded 4 (.lconst 0) 1 5 := ⟨by decide +kernel, rfl⟩
theorem d_n_folded_5 : DD b_n_folded 5 (.lstore_n 3) 1 6 := ⟨by decide +kernel, rfl⟩
theorem d_n_folded_6 : DD b_n_folded 6 (.aload_n 0) 1 7 := ⟨by decide +kernel, rfl⟩
theorem d_n_folded_7 : DD b_n_folded 7 (.getfield 13) 3 10 := ⟨by decide +kernel, rfl⟩
theorem d_n_folded_10 : DD b_n_folded 10 (.iconst 1) 1 11 := ⟨by decide +kernel, rfl⟩
theorem d_n_folded_11 : DD b_n_folded 11 .isub 1 12 := ⟨by decide +kernel, rfl⟩
theorem d_n_folded_12 : DD b_n_folded 12 (.istore 5) 2 14 := ⟨by decide +kernel, rfl⟩
theorem d_n_folded_14 : DD b_n_folded 14 (.iload 5) 2 16 := ⟨by decide +kernel, rfl⟩
theorem d_n_folded_16 : DB b_n_folded 16 (.ifCond .lt 43) 43 19 59 := ⟨by decide +kernel, rfl, rfl⟩
theorem d_n_folded_19 : DD b_n_folded 19 (.lload_n 3) 1 20 := ⟨by decide +kernel, rfl⟩
theorem d_n_folded_20 : DD b_n_folded 20 (.bipush 24) 2 22 := ⟨by decide +kernel, rfl⟩
theorem d_n_folded_22 : DD b_n_folded 22 .lshl 1 23 := ⟨by decide +kernel, rfl⟩
theorem d_n_folded_23 : DD b_n_folded 23 (.lload_n 1) 1 24 := ⟨by decide +kernel, rfl⟩
theorem d_n_folded_24 : DD b_n_folded 24 .land 1 25 := ⟨by decide +kernel, rfl⟩
theorem d_n_folded_25 : DD b_n_folded 25 (.lload_n 3) 1 26 := ⟨by decide +kernel, rfl⟩
theorem d_n_folded_26 : DD b_n_folded 26 (.bipush 37) 2 28 := ⟨by decide +kernel, rfl⟩
theorem d_n_folded_28 : DD b_n_folded 28 .lushr 1 29 := ⟨by decide +kernel, rfl⟩
theorem d_n_folded_29 : DD b_n_folded 29 .ladd 1 30 := ⟨by decide +kernel, rfl⟩
theorem d_n_folded_30 : DD b_n_folded 30 (.aload_n 0) 1 31 := ⟨by decide +kernel, rfl⟩
theorem d_n_folded_31 : DD b_n_folded 31 (.getfield 9) 3 34 := ⟨by decide +kernel, rfl⟩
theorem d_n_folded_34 : DD b_n_folded 34 (.iload 5) 2 36 := ⟨by decide +kernel, rfl⟩
theorem d_n_folded_36 : DD b_n_folded 36 .iaload 1 37 := ⟨by decide +kernel, rfl⟩
theorem d_n_folded_37 : DD b_n_folded 37 .i2l 1 38 := ⟨by decide +kernel, rfl⟩
theorem d_n_folded_38 : DD b_n_folded 38 .ladd 1 39 := ⟨by decide +kernel, rfl⟩
theorem d_n_folded_39 : DD b_n_folded 39 (.lstore_n 3) 1 40 := ⟨by decide +kernel, rfl⟩
theorem d_n_folded_40 : DD b_n_folded 40 (.lload_n 3) 1 41 := ⟨by decide +kernel, rfl⟩
theorem d_n_folded_41 : DD b_n_folded 41 (.lload_n 1) 1 42 := ⟨by decide +kernel, rfl⟩
theorem d_n_folded_42 : DD b_n_folded 42 .lcmp 1 43 := ⟨by decide +kernel, rfl⟩
theorem d_n_folded_43 : DB b_n_folded 43 (.ifCond .lt 10) 10 46 53 := ⟨by decide +kernel, rfl, rfl⟩
theorem d_n_folded_46 : DD b_n_folded 46 (.lload_n 3) 1 47 := ⟨by decide +kernel, rfl⟩
theorem d_n_folded_47 : DD b_n_folded 47 (.lload_n 1) 1 48 := ⟨by decide +kernel, rfl⟩
theorem d_n_folded_48 : DD b_n_folded 48 .lsub 1 49 := ⟨by decide +kernel, rfl⟩
theorem d_n_folded_49 : DD b_n_folded 49 (.lstore_n 3) 1 50 := ⟨by decide +kernel, rfl⟩
theorem d_n_folded_50 : DB b_n_folded 50 (.goto (-10)) (-10) 53 40 := ⟨by decide +kernel, rfl, rfl⟩
theorem d_n_folded_53 : DD b_n_folded 53 (.iinc 5 (-1)) 3 56 := ⟨by decide +kernel, rfl⟩
theorem d_n_folded_56 : DB b_n_folded 56 (.goto (-42)) (-42) 59 14 := ⟨by decide +kernel, rfl, rfl⟩
theorem d_n_folded_59 : DD b_n_folded 59 (.aload_n 0) 1 60 := ⟨by decide +kernel, rfl⟩
theorem d_n_folded_60 : DD b_n_folded 60 (.getfield 17) 3 63 := ⟨by decide +kernel, rfl⟩
theorem d_n_folded_63 : DB b_n_folded 63 (.ifCond .ge 8) 8 66 71 := ⟨by decide +kernel, rfl, rfl⟩
theorem d_n_folded_66 : DD b_n_folded 66 (.lload_n 3) 1 67 := ⟨by decide +kernel, rfl⟩
theorem d_n_folded_67 : DD b_n_folded 67 .lneg 1 68 := ⟨by decide +kernel, rfl⟩
theorem d_n_folded_68 : DB b_n_folded 68 (.goto 4) 4 71 72 := ⟨by decide +kernel, rfl, rfl⟩
theorem d_n_folded_71 : DD b_n_folded 71 (.lload_n 3) 1 72 := ⟨by decide +kernel, rfl⟩
theorem d_n_folded_72 : DD b_n_folded 72 .lreturn 1 73 := ⟨by decide +kernel, rfl⟩
set_option maxRecDepth 20000 in
set_option maxHeartbeats 4000000 in
theorem c_n_folded (l : Launch) (G : ZG) {t : Int} {σ : Mem} {K : Int → Prop} (h : wp_n_folded t σ K) (h_t : isN t) : Ct l G y_n_folded (.code y_n_folded b_n_folded 6 (some .long)) { frames := 0, cells := 0, slots := 0, locals := 0 } 0 0 2 [.ref (zA G t)] σ (fun r σ1 => σ = σ1 ∧ K r) (fun _ _ => False) := by
  unfold wp_n_folded at h
  refine Ct.ofZ [(0, .ref (zA G t))] "LimbDesk$Num" (by decide) rfl (Nat.le_of_ble_eq_true rfl) rfl ?_
  intro E hR hlE C hr hX
  subst hlE
  clear hR
  obtain ⟨Q, hQ⟩ : ∃ Q, Q = MQX G (zb E) 2 (fun r σ1 => σ = σ1 ∧ K r) (fun _ _ => False) (zs E) 0 0 0 0 := ⟨_, rfl⟩
  show Z E G 6 0 0 (MQX G (zb E) 2 (fun r σ1 => σ = σ1 ∧ K r) (fun _ _ => False) (zs E) 0 0 0 0) σ 0 [(0, .ref (zA G t))] []
  rw [← hQ]
  refine z_ldc2 C d_n_folded_0 k_446 (n := 2305843009213693951) (by decide) ?_
  refine z_lstore_n C [(1, .long (lL 2305843009213693951)), (0, .ref (zA G t))] d_n_folded_3 (by decide) rfl ?_
  refine z_lconst C d_n_folded_4 ?_
  refine z_lstore_n C [(3, .long (lL 0)), (1, .long (lL 2305843009213693951)), (0, .ref (zA G t))] d_n_folded_5 (by decide) rfl ?_
  refine z_aload_n C 2 d_n_folded_6 rfl ?_
  refine z_nget_n C d_n_folded_7 k_32 h_t ?_
  refine z_iconst C d_n_folded_10 ?_
  refine z_isub C d_n_folded_11 ?_
  refine z_namei (fun v5_1 e2 => ?_)
  have h := h v5_1 e2
  refine z_istore C [(5, .int (iI v5_1)), (3, .long (lL 0)), (1, .long (lL 2305843009213693951)), (0, .ref (zA G t))] d_n_folded_12 (by decide) rfl ?_
  obtain ⟨ok5, h⟩ := h
  refine z_sub [(0, .ref (zA G t)), (1, .long (lL 2305843009213693951)), (3, .long (lL 0)), (5, .int (iI v5_1))] [3, 2, 1, 0] rfl ?_
  refine (Lq2.walk (P := fun v3_3 v5_4 => okI v5_4 → Z E G 6 0 0 Q σ 14 [(0, .ref (zA G t)), (1, .long (lL 2305843009213693951)), (3, .long (lL v3_3)), (5, .int (iI v5_4))] []) ?_ h) ok5
  intro v3_3 v5_4 again7 Hagain7 h ok6
  refine z_iload C 3 d_n_folded_14 rfl ?_
  refine z_if_lt C d_n_folded_16 ok6 (fun hb8 => ?_) (fun hb8 => ?_)
  · have h := h.1 hb8
    refine z_aload_n C 0 d_n_folded_59 rfl ?_
    refine z_nget_sign C d_n_folded_60 k_33 h_t ?_
    obtain ⟨ok9, h⟩ := h
    have hj : ∀ s11 : Int, s11 = (if 0 ≤ (σ t 2) then v3_3 else (-v3_3)) → Z E G 6 0 0 Q σ 72 [(0, .ref (zA G t)), (1, .long (lL 2305843009213693951)), (3, .long (lL v3_3)), (5, .int (iI v5_4))] [.long (lL s11)] := by
      intro s11 e12
      have h := h s11 e12
      obtain ⟨ok13, h⟩ := h
      subst hQ
      exact z_lreturn C d_n_folded_72.1 hr ⟨Nat.zero_le _, Nat.zero_le _⟩ ok13 ⟨rfl, h⟩
    clear h
    refine z_if_ge C d_n_folded_63 ok9 (fun hb10 => ?_) (fun hb10 => ?_)
    · refine z_lload_n C 2 d_n_folded_71 rfl ?_
      exact hj _ (if_pos hb10).symm
    · refine z_lload_n C 2 d_n_folded_66 rfl ?_
      refine z_lneg C d_n_folded_67 ?_
      refine z_goto C d_n_folded_68 ?_
      exact hj _ (if_neg (Int.not_le.mpr hb10)).symm
  · have h := h.2 hb8
    refine z_lload_n C 2 d_n_folded_19 rfl ?_
    refine z_bipush C d_n_folded_20 (by decide) ?_
    refine z_lshlK C 16777216 d_n_folded_22 (by decide) ⟨by decide, by decide⟩ ?_
    refine z_lload_n C 1 d_n_folded_23 rfl ?_
    refine z_lmask C 61 2305843009213693952 d_n_folded_24 (by decide) (by decide) (by decide) ?_
    refine z_lload_n C 2 d_n_folded_25 rfl ?_
    refine z_bipush C d_n_folded_26 (by decide) ?_
    refine z_lushrK C 137438953472 d_n_folded_28 (by decide) ⟨by decide, by decide⟩ ?_
    refine z_ladd C d_n_folded_29 ?_
    refine z_aload_n C 0 d_n_folded_30 rfl ?_
    refine z_nget_d C d_n_folded_31 k_30 h_t ?_
    refine z_iload C 3 d_n_folded_34 rfl ?_
    obtain ⟨hc14, h⟩ := h
    refine z_ialdN C (600) d_n_folded_36 (isN.A h_t) (ln_num h_t) hc14 ?_
    obtain ⟨ok15, h⟩ := h
    refine z_i2l C d_n_folded_37 ok15 ?_
    refine z_ladd C d_n_folded_38 ?_
    refine z_namel (fun v3_16 e17 => ?_)
    have h := h v3_16 e17
    refine z_lstore_n C [(3, .long (lL v3_16)), (0, .ref (zA G t)), (1, .long (lL 2305843009213693951)), (5, .int (iI v5_4))] d_n_folded_39 (by decide) rfl ?_
    refine z_sub [(0, .ref (zA G t)), (1, .long (lL 2305843009213693951)), (3, .long (lL v3_16)), (5, .int (iI v5_4))] [1, 2, 0, 3] rfl ?_
    refine (Lq1.walk (P := fun v3_18 => Z E G 6 0 0 Q σ 40 [(0, .ref (zA G t)), (1, .long (lL 2305843009213693951)), (3, .long (lL v3_18)), (5, .int (iI v5_4))] []) ?_ h)
    intro v3_18 again19 Hagain19 h
    refine z_lload_n C 2 d_n_folded_40 rfl ?_
    refine z_lload_n C 1 d_n_folded_41 rfl ?_
    obtain ⟨ok20, h⟩ := h
    refine z_lcmp_lt C d_n_folded_42 d_n_folded_43 ok20 (okL_lit rfl) (fun hb21 => ?_) (fun hb21 => ?_)
    · have h := h.1 hb21
      refine z_iinc C 3 [(5, .int (iI (v5_4 + (-1)))), (0, .ref (zA G t)), (1, .long (lL 2305843009213693951)), (3, .long (lL v3_18))] d_n_folded_53 rfl (by decide) rfl ?_
      refine z_goto C d_n_folded_56 ?_
      obtain ⟨ok22, h⟩ := h
      refine z_sub [(0, .ref (zA G t)), (1, .long (lL 2305843009213693951)), (3, .long (lL v3_18)), (5, .int (iI (v5_4 + (-1))))] [1, 2, 3, 0] rfl ?_
      exact Hagain7 _ _ h ok22
    · have h := h.2 hb21
      refine z_lload_n C 2 d_n_folded_46 rfl ?_
      refine z_lload_n C 1 d_n_folded_47 rfl ?_
      refine z_lsub C d_n_folded_48 ?_
      refine z_namel (fun v3_23 e24 => ?_)
      have h := h v3_23 e24
      refine z_lstore_n C [(3, .long (lL v3_23)), (0, .ref (zA G t)), (1, .long (lL 2305843009213693951)), (5, .int (iI v5_4))] d_n_folded_49 (by decide) rfl ?_
      refine z_goto C d_n_folded_50 ?_
      refine z_sub [(0, .ref (zA G t)), (1, .long (lL 2305843009213693951)), (3, .long (lL v3_23)), (5, .int (iI v5_4))] [1, 2, 0, 3] rfl ?_
      exact Hagain19 _ h
theorem d_n_digit_0 : DD b_n_digit 0 (.iload_n 0) 1 1 := ⟨by decide +kernel, rfl⟩
theorem d_n_digit_1 : DD b_n_digit 1 (.bipush 48) 2 3 := ⟨by decide +kernel, rfl⟩
theorem d_n_digit_3 : DB b_n_digit 3 (.if_icmp .lt 16) 16 6 19 := ⟨by decide +kernel, rfl, rfl⟩
theorem d_n_digit_6 : DD b_n_digit 6 (.iload_n 0) 1 7 := ⟨by decide +kernel, rfl⟩
theorem d_n_digit_7 : DD b_n_digit 7 (.bipush 57) 2 9 := ⟨by decide +kernel, rfl⟩
theorem d_n_digit_9 : DB b_n_digit 9 (.if_icmp .gt 10) 10 12 19 := ⟨by decide +kernel, rfl, rfl⟩
theorem d_n_digit_12 : DD b_n_digit 12 (.iload_n 0) 1 13 := ⟨by decide +kernel, rfl⟩
theorem d_n_digit_13 : DD b_n_digit 13 (.bipush 48) 2 15 := ⟨by decide +kernel, rfl⟩
theorem d_n_digit_15 : DD b_n_digit 15 .isub 1 16 := ⟨by decide +kernel, rfl⟩
theorem d_n_digit_16 : DB b_n_digit 16 (.goto 49) 49 19 65 := ⟨by decide +kernel, rfl, rfl⟩
theorem d_n_digit_19 : DD b_n_digit 19 (.iload_n 0) 1 20 := ⟨by decide +kernel, rfl⟩
theorem d_n_digit_20 : DD b_n_digit 20 (.bipush 97) 2 22 := ⟨by decide +kernel, rfl⟩
theorem d_n_digit_22 : DB b_n_digit 22 (.if_icmp .lt 19) 19 25 41 := ⟨by decide +kernel, rfl, rfl⟩
theorem d_n_digit_25 : DD b_n_digit 25 (.iload_n 0) 1 26 := ⟨by decide +kernel, rfl⟩
theorem d_n_digit_26 : DD b_n_digit 26 (.bipush 122) 2 28 := ⟨by decide +kernel, rfl⟩
theorem d_n_digit_28 : DB b_n_digit 28 (.if_icmp .gt 13) 13 31 41 := ⟨by decide +kernel, rfl, rfl⟩
theorem d_n_digit_31 : DD b_n_digit 31 (.iload_n 0) 1 32 := ⟨by decide +kernel, rfl⟩
theorem d_n_digit_32 : DD b_n_digit 32 (.bipush 97) 2 34 := ⟨by decide +kernel, rfl⟩
theorem d_n_digit_34 : DD b_n_digit 34 .isub 1 35 := ⟨by decide +kernel, rfl⟩
theorem d_n_digit_35 : DD b_n_digit 35 (.bipush 10) 2 37 := ⟨by decide +kernel, rfl⟩
theorem d_n_digit_37 : DD b_n_digit 37 .iadd 1 38 := ⟨by decide +kernel, rfl⟩
theorem d_n_digit_38 : DB b_n_digit 38 (.goto 27) 27 41 65 := ⟨by decide +kernel, rfl, rfl⟩
theorem d_n_digit_41 : DD b_n_digit 41 (.iload_n 0) 1 42 := ⟨by decide +kernel, rfl⟩
theorem d_n_digit_42 : DD b_n_digit 42 (.bipush 65) 2 44 := ⟨by decide +kernel, rfl⟩
theorem d_n_digit_44 : DB b_n_digit 44 (.if_icmp .lt 19) 19 47 63 := ⟨by decide +kernel, rfl, rfl⟩
theorem d_n_digit_47 : DD b_n_digit 47 (.iload_n 0) 1 48 := ⟨by decide +kernel, rfl⟩
theorem d_n_digit_48 : DD b_n_digit 48 (.bipush 90) 2 50 := ⟨by decide +kernel, rfl⟩
theorem d_n_digit_50 : DB b_n_digit 50 (.if_icmp .gt 13) 13 53 63 := ⟨by decide +kernel, rfl, rfl⟩
theorem d_n_digit_53 : DD b_n_digit 53 (.iload_n 0) 1 54 := ⟨by decide +kernel, rfl⟩
theorem d_n_digit_54 : DD b_n_digit 54 (.bipush 65) 2 56 := ⟨by decide +kernel, rfl⟩
theorem d_n_digit_56 : DD b_n_digit 56 .isub 1 57 := ⟨by decide +kernel, rfl⟩
theorem d_n_digit_57 : DD b_n_digit 57 (.bipush 10) 2 59 := ⟨by decide +kernel, rfl⟩
theorem d_n_digit_59 : DD b_n_digit 59 .iadd 1 60 := ⟨by decide +kernel, rfl⟩
theorem d_n_digit_60 : DB b_n_digit 60 (.goto 5) 5 63 65 := ⟨by decide +kernel, rfl, rfl⟩
theorem d_n_digit_63 : DD b_n_digit 63 (.bipush 99) 2 65 := ⟨by decide +kernel, rfl⟩
theorem d_n_digit_65 : DD b_n_digit 65 .ireturn 1 66 := ⟨by decide +kernel, rfl⟩
set_option maxRecDepth 20000 in
set_option maxHeartbeats 4000000 in
theorem c_n_digit (l : Launch) (G : ZG) {c : Int} {σ : Mem} {K : Int → Prop} (h : wp_n_digit c σ K) (h_c : okI c) : Ct l G y_n_digit (.code y_n_digit b_n_digit 1 (some .int)) { frames := 0, cells := 0, slots := 0, locals := 0 } 0 0 1 [.int (iI c)] σ (fun r σ1 => σ = σ1 ∧ K r) (fun _ _ => False) := by
  unfold wp_n_digit at h
  refine Ct.ofZ [(0, .int (iI c))] "LimbDesk$Num" (by decide) rfl (Nat.le_of_ble_eq_true rfl) rfl ?_
  intro E hR hlE C hr hX
  subst hlE
  clear hR
  obtain ⟨Q, hQ⟩ : ∃ Q, Q = MQX G (zb E) 1 (fun r σ1 => σ = σ1 ∧ K r) (fun _ _ => False) (zs E) 0 0 0 0 := ⟨_, rfl⟩
  show Z E G 1 0 0 (MQX G (zb E) 1 (fun r σ1 => σ = σ1 ∧ K r) (fun _ _ => False) (zs E) 0 0 0 0) σ 0 [(0, .int (iI c))] []
  rw [← hQ]
  refine z_iload_n C 0 d_n_digit_0 rfl ?_
  refine z_bipush C d_n_digit_1 (by decide) ?_
  refine Jq0.walk (Z E G 1 0 0 Q σ 19 [(0, .int (iI c))] []) h ?_ ?_
  · intro h
    refine z_iload_n C 0 d_n_digit_19 rfl ?_
    refine z_bipush C d_n_digit_20 (by decide) ?_
    refine Jq0.walk (Z E G 1 0 0 Q σ 41 [(0, .int (iI c))] []) h ?_ ?_
    · intro h
      refine z_iload_n C 0 d_n_digit_41 rfl ?_
      refine z_bipush C d_n_digit_42 (by decide) ?_
      refine Jq0.walk (Z E G 1 0 0 Q σ 63 [] []) h ?_ ?_
      · intro h
        refine z_bipush C d_n_digit_63 (by decide) ?_
        subst hQ
        exact z_ireturn C d_n_digit_65.1 hr ⟨Nat.zero_le _, Nat.zero_le _⟩ (okI_lit rfl) ⟨rfl, h⟩
      · intro J3 HJ3 h
        refine z_icmp_lt C d_n_digit_44 h_c (okI_lit rfl) (fun hb4 => ?_) (fun hb4 => ?_)
        · have h := h.1 hb4
          refine z_sub [] [] rfl ?_
          exact HJ3 h
        · have h := h.2 hb4
          refine z_iload_n C 0 d_n_digit_47 rfl ?_
          refine z_bipush C d_n_digit_48 (by decide) ?_
          refine z_icmp_gt C d_n_digit_50 h_c (okI_lit rfl) (fun hb5 => ?_) (fun hb5 => ?_)
          · have h := h.1 hb5
            refine z_sub [] [] rfl ?_
            exact HJ3 h
          · have h := h.2 hb5
            refine z_iload_n C 0 d_n_digit_53 rfl ?_
            refine z_bipush C d_n_digit_54 (by decide) ?_
            refine z_isub C d_n_digit_56 ?_
            refine z_bipush C d_n_digit_57 (by decide) ?_
            refine z_iadd C d_n_digit_59 ?_
            refine z_goto C d_n_digit_60 ?_
            obtain ⟨ok6, h⟩ := h
            subst hQ
            exact z_ireturn C d_n_digit_65.1 hr ⟨Nat.zero_le _, Nat.zero_le _⟩ ok6 ⟨rfl, h⟩
    · intro J2 HJ2 h
      refine z_icmp_lt C d_n_digit_22 h_c (okI_lit rfl) (fun hb7 => ?_) (fun hb7 => ?_)
      · have h := h.1 hb7
        refine z_sub [(0, .int (iI c))] [0] rfl ?_
        exact HJ2 h
      · have h := h.2 hb7
        refine z_iload_n C 0 d_n_digit_25 rfl ?_
        refine z_bipush C d_n_digit_26 (by decide) ?_
        refine z_icmp_gt C d_n_digit_28 h_c (okI_lit rfl) (fun hb8 => ?_) (fun hb8 => ?_)
        · have h := h.1 hb8
          refine z_sub [(0, .int (iI c))] [0] rfl ?_
          exact HJ2 h
        · have h := h.2 hb8
          refine z_iload_n C 0 d_n_digit_31 rfl ?_
          refine z_bipush C d_n_digit_32 (by decide) ?_
          refine z_isub C d_n_digit_34 ?_
          refine z_bipush C d_n_digit_35 (by decide) ?_
          refine z_iadd C d_n_digit_37 ?_
          refine z_goto C d_n_digit_38 ?_
          obtain ⟨ok9, h⟩ := h
          subst hQ
          exact z_ireturn C d_n_digit_65.1 hr ⟨Nat.zero_le _, Nat.zero_le _⟩ ok9 ⟨rfl, h⟩
  · intro J1 HJ1 h
    refine z_icmp_lt C d_n_digit_3 h_c (okI_lit rfl) (fun hb10 => ?_) (fun hb10 => ?_)
    · have h := h.1 hb10
      refine z_sub [(0, .int (iI c))] [0] rfl ?_
      exact HJ1 h
    · have h := h.2 hb10
      refine z_iload_n C 0 d_n_digit_6 rfl ?_
      refine z_bipush C d_n_digit_7 (by decide) ?_
      refine z_icmp_gt C d_n_digit_9 h_c (okI_lit rfl) (fun hb11 => ?_) (fun hb11 => ?_)
      · have h := h.1 hb11
        refine z_sub [(0, .int (iI c))] [0] rfl ?_
        exact HJ1 h
      · have h := h.2 hb11
        refine z_iload_n C 0 d_n_digit_12 rfl ?_
        refine z_bipush C d_n_digit_13 (by decide) ?_
        refine z_isub C d_n_digit_15 ?_
        refine z_goto C d_n_digit_16 ?_
        obtain ⟨ok12, h⟩ := h
        subst hQ
        exact z_ireturn C d_n_digit_65.1 hr ⟨Nat.zero_le _, Nat.zero_le _⟩ ok12 ⟨rfl, h⟩
theorem d_n_parse_0 : DD b_n_parse 0 (.iconst 0) 1 1 := ⟨by decide +kernel, rfl⟩
theorem d_n_parse_1 : DD b_n_parse 1 (.istore 5) 2 3 := ⟨by decide +kernel, rfl⟩
theorem d_n_parse_3 : DD b_n_parse 3 (.iload_n 2) 1 4 := ⟨by decide +kernel, rfl⟩
theorem d_n_parse_4 : DD b_n_parse 4 (.istore 6) 2 6 := ⟨by decide +kernel, rfl⟩
theorem d_n_parse_6 : DD b_n_parse 6 (.iload 6) 2 8 := ⟨by decide +kernel, rfl⟩
theorem d_n_parse_8 : DD b_n_parse 8 (.iload_n 3) 1 9 := ⟨by decide +kernel, rfl⟩
theorem d_n_parse_9 : DB b_n_parse 9 (.if_icmp .ge 190) 190 12 199 := ⟨by decide +kernel, rfl, rfl⟩
theorem d_n_parse_12 : DD b_n_parse 12 (.aload_n 1) 1 13 := ⟨by decide +kernel, rfl⟩
theorem d_n_parse_13 : DD b_n_parse 13 (.iload 6) 2 15 := ⟨by decide +kernel, rfl⟩
theorem d_n_parse_15 : DD b_n_parse 15 .baload 1 16 := ⟨by decide +kernel, rfl⟩
theorem d_n_parse_16 : DD b_n_parse 16 (.sipush 255) 3 19 := ⟨by decide +kernel, rfl⟩
theorem d_n_parse_19 : DD b_n_parse 19 .iand 1 20 := ⟨by decide +kernel, rfl⟩
theorem d_n_parse_20 : DD b_n_parse 20 (.istore 7) 2 22 := ⟨by decide +kernel, rfl⟩
theorem d_n_parse_22 : DD b_n_parse 22 (.iload 7) 2 24 := ⟨by decide +kernel, rfl⟩
theorem d_n_parse_24 : DD b_n_parse 24 (.invokestatic 102) 3 27 := ⟨by decide +kernel, rfl⟩
theorem d_n_parse_27 : DD b_n_parse 27 (.iload 4) 2 29 := ⟨by decide +kernel, rfl⟩
theorem d_n_parse_29 : DB b_n_parse 29 (.if_icmp .lt 6) 6 32 35 := ⟨by decide +kernel, rfl, rfl⟩
theorem d_n_parse_32 : DB b_n_parse 32 (.goto 161) 161 35 193 := ⟨by decide +kernel, rfl, rfl⟩
theorem d_n_parse_35 : DD b_n_parse 35 (.iload 4) 2 37 := ⟨by decide +kernel, rfl⟩
theorem d_n_parse_37 : DD b_n_parse 37 (.istore 8) 2 39 := ⟨by decide +kernel, rfl⟩
theorem d_n_parse_39 : DD b_n_parse 39 (.iload 7) 2 41 := ⟨by decide +kernel, rfl⟩
theorem d_n_parse_41 : DD b_n_parse 41 (.invokestatic 102) 3 44 := ⟨by decide +kernel, rfl⟩
theorem d_n_parse_44 : DD b_n_parse 44 (.istore 9) 2 46 := ⟨by decide +kernel, rfl⟩
theorem d_n_parse_46 : DD b_n_parse 46 (.iload 6) 2 48 := ⟨by decide +kernel, rfl⟩
theorem d_n_parse_48 : DD b_n_parse 48 (.iconst 1) 1 49 := ⟨by decide +kernel, rfl⟩
theorem d_n_parse_49 : DD b_n_parse 49 .iadd 1 50 := ⟨by decide +kernel, rfl⟩
theorem d_n_parse_50 : DD b_n_parse 50 (.iload_n 3) 1 51 := ⟨by decide +kernel, rfl⟩
theorem d_n_parse_51 : DB b_n_parse 51 (.if_icmp .ge 63) 63 54 114 := ⟨by decide +kernel, rfl, rfl⟩
theorem d_n_parse_54 : DD b_n_parse 54 (.iload 8) 2 56 := ⟨by decide +kernel, rfl⟩
theorem d_n_parse_56 : DD b_n_parse 56 (.ldc 50) 2 58 := ⟨by decide +kernel, rfl⟩
theorem d_n_parse_58 : DD b_n_parse 58 (.iload 4) 2 60 := ⟨by decide +kernel, rfl⟩
theorem d_n_parse_60 : DD b_n_parse 60 .idiv 1 61 := ⟨by decide +kernel, rfl⟩
theorem d_n_parse_61 : DB b_n_parse 61 (.if_icmp .gt 53) 53 64 114 := ⟨by decide +kernel, rfl, rfl⟩
theorem d_n_parse_64 : DD b_n_parse 64 (.aload_n 1) 1 65 := ⟨by decide +kernel, rfl⟩
theorem d_n_parse_65 : DD b_n_parse 65 (.iload 6) 2 67 := ⟨by decide +kernel, rfl⟩
theorem d_n_parse_67 : DD b_n_parse 67 (.iconst 1) 1 68 := ⟨by decide +kernel, rfl⟩
theorem d_n_parse_68 : DD b_n_parse 68 .iadd 1 69 := ⟨by decide +kernel, rfl⟩
theorem d_n_parse_69 : DD b_n_parse 69 .baload 1 70 := ⟨by decide +kernel, rfl⟩
theorem d_n_parse_70 : DD b_n_parse 70 (.sipush 255) 3 73 := ⟨by decide +kernel, rfl⟩
theorem d_n_parse_73 : DD b_n_parse 73 .iand 1 74 := ⟨by decide +kernel, rfl⟩
theorem d_n_parse_74 : DD b_n_parse 74 (.invokestatic 102) 3 77 := ⟨by decide +kernel, rfl⟩
theorem d_n_parse_77 : DD b_n_parse 77 (.iload 4) 2 79 := ⟨by decide +kernel, rfl⟩
theorem d_n_parse_79 : DB b_n_parse 79 (.if_icmp .ge 35) 35 82 114 := ⟨by decide +kernel, rfl, rfl⟩
theorem d_n_parse_82 : DD b_n_parse 82 (.iinc 6 1) 3 85 := ⟨by decide +kernel, rfl⟩
theorem d_n_parse_85 : DD b_n_parse 85 (.iload 8) 2 87 := ⟨by decide +kernel, rfl⟩
theorem d_n_parse_87 : DD b_n_parse 87 (.iload 4) 2 89 := ⟨by decide +kernel, rfl⟩
theorem d_n_parse_89 : DD b_n_parse 89 .imul 1 90 := ⟨by decide +kernel, rfl⟩
theorem d_n_parse_90 : DD b_n_parse 90 (.istore 8) 2 92 := ⟨by decide +kernel, rfl⟩
theorem d_n_parse_92 : DD b_n_parse 92 (.iload 9) 2 94 := ⟨by decide +kernel, rfl⟩
theorem d_n_parse_94 : DD b_n_parse 94 (.iload 4) 2 96 := ⟨by decide +kernel, rfl⟩
theorem d_n_parse_96 : DD b_n_parse 96 .imul 1 97 := ⟨by decide +kernel, rfl⟩
theorem d_n_parse_97 : DD b_n_parse 97 (.aload_n 1) 1 98 := ⟨by decide +kernel, rfl⟩
theorem d_n_parse_98 : DD b_n_parse 98 (.iload 6) 2 100 := ⟨by decide +kernel, rfl⟩
theorem d_n_parse_100 : DD b_n_parse 100 .baload 1 101 := ⟨by decide +kernel, rfl⟩
theorem d_n_parse_101 : DD b_n_parse 101 (.sipush 255) 3 104 := ⟨by decide +kernel, rfl⟩
theorem d_n_parse_104 : DD b_n_parse 104 .iand 1 105 := ⟨by decide +kernel, rfl⟩
theorem d_n_parse_105 : DD b_n_parse 105 (.invokestatic 102) 3 108 := ⟨by decide +kernel, rfl⟩
theorem d_n_parse_108 : DD b_n_parse 108 .iadd 1 109 := ⟨by decide +kernel, rfl⟩
theorem d_n_parse_109 : DD b_n_parse 109 (.istore 9) 2 111 := ⟨by decide +kernel, rfl⟩
theorem d_n_parse_111 : DB b_n_parse 111 (.goto (-65)) (-65) 114 46 := ⟨by decide +kernel, rfl, rfl⟩
theorem d_n_parse_114 : DD b_n_parse 114 (.iload 9) 2 116 := ⟨by decide +kernel, rfl⟩
theorem d_n_parse_116 : DD b_n_parse 116 .i2l 1 117 := ⟨by decide +kernel, rfl⟩
theorem d_n_parse_117 : DD b_n_parse 117 (.lstore 10) 2 119 := ⟨by decide +kernel, rfl⟩
theorem d_n_parse_119 : DD b_n_parse 119 (.iconst 0) 1 120 := ⟨by decide +kernel, rfl⟩
theorem d_n_parse_120 : DD b_n_parse 120 (.istore 12) 2 122 := ⟨by decide +kernel, rfl⟩
theorem d_n_parse_122 : DD b_n_parse 122 (.iload 12) 2 124 := ⟨by decide +kernel, rfl⟩
theorem d_n_parse_124 : DD b_n_parse 124 (.iload 5) 2 126 := ⟨by decide +kernel, rfl⟩
theorem d_n_parse_126 : DB b_n_parse 126 (.if_icmp .ge 47) 47 129 173 := ⟨by decide +kernel, rfl, rfl⟩
theorem d_n_parse_129 : DD b_n_parse 129 (.aload_n 0) 1 130 := ⟨by decide +kernel, rfl⟩
theorem d_n_parse_130 : DD b_n_parse 130 (.getfield 9) 3 133 := ⟨by decide +kernel, rfl⟩
theorem d_n_parse_133 : DD b_n_parse 133 (.iload 12) 2 135 := ⟨by decide +kernel, rfl⟩
theorem d_n_parse_135 : DD b_n_parse 135 .iaload 1 136 := ⟨by decide +kernel, rfl⟩
theorem d_n_parse_136 : DD b_n_parse 136 .i2l 1 137 := ⟨by decide +kernel, rfl⟩
theorem d_n_parse_137 : DD b_n_parse 137 (.iload 8) 2 139 := ⟨by decide +kernel, rfl⟩
theorem d_n_parse_139 : DD b_n_parse 139 .i2l 1 140 := ⟨by decide +kernel, rfl⟩
theorem d_n_parse_140 : DD b_n_parse 140 .lmul 1 141 := ⟨by decide +kernel, rfl⟩
theorem d_n_parse_141 : DD b_n_parse 141 (.lload 10) 2 143 := ⟨by decide +kernel, rfl⟩
theorem d_n_parse_143 : DD b_n_parse 143 .ladd 1 144 := ⟨by decide +kernel, rfl⟩
theorem d_n_parse_144 : DD b_n_parse 144 (.lstore 13) 2 146 := ⟨by decide +kernel, rfl⟩
theorem d_n_parse_146 : DD b_n_parse 146 (.aload_n 0) 1 147 := ⟨by decide +kernel, rfl⟩
theorem d_n_parse_147 : DD b_n_parse 147 (.getfield 9) 3 150 := ⟨by decide +kernel, rfl⟩
theorem d_n_parse_150 : DD b_n_parse 150 (.iload 12) 2 152 := ⟨by decide +kernel, rfl⟩
theorem d_n_parse_152 : DD b_n_parse 152 (.lload 13) 2 154 := ⟨by decide +kernel, rfl⟩
theorem d_n_parse_154 : DD b_n_parse 154 (.ldc2_w 20) 3 157 := ⟨by decide +kernel, rfl⟩
theorem d_n_parse_157 : DD b_n_parse 157 .land 1 158 := ⟨by decide +kernel, rfl⟩
theorem d_n_parse_158 : DD b_n_parse 158 .l2i 1 159 := ⟨by decide +kernel, rfl⟩
theorem d_n_parse_159 : DD b_n_parse 159 .iastore 1 160 := ⟨by decide +kernel, rfl⟩
theorem d_n_parse_160 : DD b_n_parse 160 (.lload 13) 2 162 := ⟨by decide +kernel, rfl⟩
theorem d_n_parse_162 : DD b_n_parse 162 (.bipush 24) 2 164 := ⟨by decide +kernel, rfl⟩
theorem d_n_parse_164 : DD b_n_parse 164 .lushr 1 165 := ⟨by decide +kernel, rfl⟩
theorem d_n_parse_165 : DD b_n_parse 165 (.lstore 10) 2 167 := ⟨by decide +kernel, rfl⟩
theorem d_n_parse_167 : DD b_n_parse 167 (.iinc 12 1) 3 170 := ⟨by decide +kernel, rfl⟩
theorem d_n_parse_170 : DB b_n_parse 170 (.goto (-48)) (-48) 173 122 := ⟨by decide +kernel, rfl, rfl⟩
theorem d_n_parse_173 : DD b_n_parse 173 (.lload 10) 2 175 := ⟨by decide +kernel, rfl⟩
theorem d_n_parse_175 : DD b_n_parse 175 (.lconst 0) 1 176 := ⟨by decide +kernel, rfl⟩
theorem d_n_parse_176 : DD b_n_parse 176 .lcmp 1 177 := ⟨by decide +kernel, rfl⟩
theorem d_n_parse_177 : DB b_n_parse 177 (.ifCond .eq 16) 16 180 193 := ⟨by decide +kernel, rfl, rfl⟩
theorem d_n_parse_180 : DD b_n_parse 180 (.aload_n 0) 1 181 := ⟨by decide +kernel, rfl⟩
theorem d_n_parse_181 : DD b_n_parse 181 (.getfield 9) 3 184 := ⟨by decide +kernel, rfl⟩
theorem d_n_parse_184 : DD b_n_parse 184 (.iload 5) 2 186 := ⟨by decide +kernel, rfl⟩
theorem d_n_parse_186 : DD b_n_parse 186 (.iinc 5 1) 3 189 := ⟨by decide +kernel, rfl⟩
theorem d_n_parse_189 : DD b_n_parse 189 (.lload 10) 2 191 := ⟨by decide +kernel, rfl⟩
theorem d_n_parse_191 : DD b_n_parse 191 .l2i 1 192 := ⟨by decide +kernel, rfl⟩
theorem d_n_parse_192 : DD b_n_parse 192 .iastore 1 193 := ⟨by decide +kernel, rfl⟩
theorem d_n_parse_193 : DD b_n_parse 193 (.iinc 6 1) 3 196 := ⟨by decide +kernel, rfl⟩
theorem d_n_parse_196 : DB b_n_parse 196 (.goto (-190)) (-190) 199 6 := ⟨by decide +kernel, rfl, rfl⟩
theorem d_n_parse_199 : DD b_n_parse 199 (.aload_n 0) 1 200 := ⟨by decide +kernel, rfl⟩
theorem d_n_parse_200 : DD b_n_parse 200 (.iload 5) 2 202 := ⟨by decide +kernel, rfl⟩
theorem d_n_parse_202 : DD b_n_parse 202 (.iconst 1) 1 203 := ⟨by decide +kernel, rfl⟩
theorem d_n_parse_203 : DD b_n_parse 203 (.invokevirtual 22) 3 206 := ⟨by decide +kernel, rfl⟩
theorem d_n_parse_206 : DD b_n_parse 206 .return_ 1 207 := ⟨by decide +kernel, rfl⟩
set_option maxRecDepth 20000 in
set_option maxHeartbeats 4000000 in
theorem c_n_parse (l : Launch) (G : ZG) {t from_ to_ base : Int} {σ : Mem} {K : Mem → Prop} (h : wp_n_parse t from_ to_ base σ K) (h_t : isN t) (h_from_ : okI from_) (h_to_ : okI to_) (h_base : okI base) : Ct l G y_n_parse (.code y_n_parse b_n_parse 15 none) { frames := 1, cells := 0, slots := 0, locals := 22 } 0 0 0 [.ref (zA G t), .ref (zA G 44), .int (iI from_), .int (iI to_), .int (iI base)] σ (fun _ σ1 => K σ1) (fun _ _ => False) := by
  unfold wp_n_parse at h
  refine Ct.ofZ [(0, .ref (zA G t)), (1, .ref (zA G 44)), (2, .int (iI from_)), (3, .int (iI to_)), (4, .int (iI base))] "LimbDesk$Num" (by decide) rfl (Nat.le_of_ble_eq_true rfl) rfl ?_
  intro E hR hlE C hr hX
  subst hlE
  have hroom_n_digit : 0 + 1 ≤ (zR E).frames ∧ 8 + (1 + 11) + 0 ≤ (zR E).locals ∧ 0 + 0 ≤ (zR E).cells ∧ 0 + 0 ≤ (zR E).slots := by rw [hR]; decide
  have hroom_n_trim : 0 + 1 ≤ (zR E).frames ∧ 8 + (3 + 11) + 0 ≤ (zR E).locals ∧ 0 + 0 ≤ (zR E).cells ∧ 0 + 0 ≤ (zR E).slots := by rw [hR]; decide
  clear hR
  obtain ⟨Q, hQ⟩ : ∃ Q, Q = MQX G (zb E) 0 (fun _ σ1 => K σ1) (fun _ _ => False) (zs E) 0 0 0 0 := ⟨_, rfl⟩
  show Z E G 15 0 0 (MQX G (zb E) 0 (fun _ σ1 => K σ1) (fun _ _ => False) (zs E) 0 0 0 0) σ 0 [(0, .ref (zA G t)), (1, .ref (zA G 44)), (2, .int (iI from_)), (3, .int (iI to_)), (4, .int (iI base))] []
  rw [← hQ]
  refine z_iconst C d_n_parse_0 ?_
  refine z_istore C [(5, .int (iI 0)), (0, .ref (zA G t)), (1, .ref (zA G 44)), (2, .int (iI from_)), (3, .int (iI to_)), (4, .int (iI base))] d_n_parse_1 (by decide) rfl ?_
  refine z_iload_n C 3 d_n_parse_3 rfl ?_
  refine z_istore C [(6, .int (iI from_)), (5, .int (iI 0)), (0, .ref (zA G t)), (1, .ref (zA G 44)), (2, .int (iI from_)), (3, .int (iI to_)), (4, .int (iI base))] d_n_parse_4 (by decide) rfl ?_
  refine z_sub [(0, .ref (zA G t)), (1, .ref (zA G 44)), (3, .int (iI to_)), (4, .int (iI base)), (5, .int (iI 0)), (6, .int (iI from_))] [2, 3, 5, 6, 1, 0] rfl ?_
  refine (Lo2.walk (P := fun v5_1 v6_2 σ3 => okI v5_1 → okI v6_2 → Z E G 15 0 0 Q σ3 6 [(0, .ref (zA G t)), (1, .ref (zA G 44)), (3, .int (iI to_)), (4, .int (iI base)), (5, .int (iI v5_1)), (6, .int (iI v6_2))] []) ?_ h) (okI_lit rfl) h_from_
  intro v5_1 v6_2 σ3 again6 Hagain6 h ok4 ok5
  refine z_iload C 5 d_n_parse_6 rfl ?_
  refine z_iload_n C 2 d_n_parse_8 rfl ?_
  refine z_icmp_ge C d_n_parse_9 ok5 h_to_ (fun hb7 => ?_) (fun hb7 => ?_)
  · have h := h.1 hb7
    refine z_aload_n C 0 d_n_parse_199 rfl ?_
    refine z_iload C 4 d_n_parse_200 rfl ?_
    refine z_iconst C d_n_parse_202 ?_
    refine z_callV C "LimbDesk$Num" [.int (iI v5_1), .int (iI 1)] [] 2 d_n_parse_203 (c_n_trim (zl E) G h h_t ok4 (okI_lit rfl)) k_168 k_165 k_167 k_s2 k_2 (by decide) (recv_N C h_t) (by decide +kernel) rfl rfl (Nat.le_of_ble_eq_true rfl) hroom_n_trim (fun _r σ8 ok9 hq => ?_) (fun _ _ hx => hx.elim)
    have h := hq
    subst hQ
    exact z_return C d_n_parse_206.1 hr ⟨Nat.zero_le _, Nat.zero_le _⟩ h
  · have h := h.2 hb7
    refine z_aload_n C 1 d_n_parse_12 rfl ?_
    refine z_iload C 5 d_n_parse_13 rfl ?_
    obtain ⟨hc10, h⟩ := h
    refine z_bald C d_n_parse_15 hc10 ?_
    refine z_sipush C d_n_parse_16 (by decide) ?_
    refine z_imask C 8 256 d_n_parse_19 (by decide) (by decide) (by decide) ?_
    refine z_namei (fun v7_11 e12 => ?_)
    have h := h v7_11 e12
    have ok13 : okI v7_11 := by rw [e12]; exact (okI_mod (by decide) (by decide))
    refine z_istore C [(7, .int (iI v7_11)), (0, .ref (zA G t)), (1, .ref (zA G 44)), (3, .int (iI to_)), (4, .int (iI base)), (5, .int (iI v5_1)), (6, .int (iI v6_2))] d_n_parse_20 (by decide) rfl ?_
    refine z_iload C 0 d_n_parse_22 rfl ?_
    refine z_callS C [.int (iI v7_11)] [] 1 d_n_parse_24 (c_n_digit (zl E) G h ok13) k_247 k_260 k_246 k_2 (by decide)  (by decide +kernel) rfl rfl (Nat.le_of_ble_eq_true rfl) hroom_n_digit (fun r14 _s71 ok15 hq => ?_) (fun _ _ hx => hx.elim)
    obtain ⟨hs_, hk_⟩ := hq
    subst hs_
    have h := hk_
    refine z_iload C 4 d_n_parse_27 rfl ?_
    refine Jo2.walk (fun v5_16 v6_17 σ18 => okI v5_16 → okI v6_17 → Z E G 15 0 0 Q σ18 193 [(0, .ref (zA G t)), (1, .ref (zA G 44)), (3, .int (iI to_)), (4, .int (iI base)), (5, .int (iI v5_16)), (6, .int (iI v6_17))] []) h ?_ ?_
    · intro v5_16 v6_17 σ18 h ok19 ok20
      refine z_iinc C 5 [(6, .int (iI (v6_17 + 1))), (0, .ref (zA G t)), (1, .ref (zA G 44)), (3, .int (iI to_)), (4, .int (iI base)), (5, .int (iI v5_16))] d_n_parse_193 rfl (by decide) rfl ?_
      refine z_goto C d_n_parse_196 ?_
      obtain ⟨ok22, h⟩ := h
      refine z_sub [(0, .ref (zA G t)), (1, .ref (zA G 44)), (3, .int (iI to_)), (4, .int (iI base)), (5, .int (iI v5_16)), (6, .int (iI (v6_17 + 1)))] [1, 2, 3, 4, 5, 0] rfl ?_
      exact Hagain6 _ _ _ h ok19 ok22
    · intro J21 HJ21 h
      refine z_icmp_lt C d_n_parse_29 ok15 h_base (fun hb23 => ?_) (fun hb23 => ?_)
      · have h := h.1 hb23
        refine z_iload C 4 d_n_parse_35 rfl ?_
        refine z_istore C [(8, .int (iI base)), (7, .int (iI v7_11)), (0, .ref (zA G t)), (1, .ref (zA G 44)), (3, .int (iI to_)), (4, .int (iI base)), (5, .int (iI v5_1)), (6, .int (iI v6_2))] d_n_parse_37 (by decide) rfl ?_
        refine z_iload C 1 d_n_parse_39 rfl ?_
        refine z_callS C [.int (iI v7_11)] [] 1 d_n_parse_41 (c_n_digit (zl E) G h ok13) k_247 k_260 k_246 k_2 (by decide)  (by decide +kernel) rfl rfl (Nat.le_of_ble_eq_true rfl) hroom_n_digit (fun r24 _s70 ok25 hq => ?_) (fun _ _ hx => hx.elim)
        obtain ⟨hs_, hk_⟩ := hq
        subst hs_
        have h := hk_
        refine z_istore C [(9, .int (iI r24)), (8, .int (iI base)), (7, .int (iI v7_11)), (0, .ref (zA G t)), (1, .ref (zA G 44)), (3, .int (iI to_)), (4, .int (iI base)), (5, .int (iI v5_1)), (6, .int (iI v6_2))] d_n_parse_44 (by decide) rfl ?_
        refine z_sub [(0, .ref (zA G t)), (1, .ref (zA G 44)), (3, .int (iI to_)), (4, .int (iI base)), (5, .int (iI v5_1)), (6, .int (iI v6_2)), (8, .int (iI base)), (9, .int (iI r24))] [3, 4, 5, 6, 7, 8, 1, 0] rfl ?_
        refine (Lq3.walk (P := fun v6_26 v8_27 v9_28 => okI v6_26 → okI v8_27 → okI v9_28 → Z E G 15 0 0 Q σ3 46 [(0, .ref (zA G t)), (1, .ref (zA G 44)), (3, .int (iI to_)), (4, .int (iI base)), (5, .int (iI v5_1)), (6, .int (iI v6_26)), (8, .int (iI v8_27)), (9, .int (iI v9_28))] []) ?_ h) ok5 h_base ok25
        intro v6_26 v8_27 v9_28 again32 Hagain32 h ok29 ok30 ok31
        refine z_iload C 5 d_n_parse_46 rfl ?_
        refine z_iconst C d_n_parse_48 ?_
        refine z_iadd C d_n_parse_49 ?_
        refine z_iload_n C 2 d_n_parse_50 rfl ?_
        obtain ⟨ok33, h⟩ := h
        refine Jq0.walk (Z E G 15 0 0 Q σ3 114 [(0, .ref (zA G t)), (1, .ref (zA G 44)), (3, .int (iI to_)), (4, .int (iI base)), (5, .int (iI v5_1)), (6, .int (iI v6_26)), (8, .int (iI v8_27)), (9, .int (iI v9_28))] []) h ?_ ?_
        · intro h
          refine z_iload C 7 d_n_parse_114 rfl ?_
          refine z_i2l C d_n_parse_116 ok31 ?_
          refine z_lstore C [(10, .long (lL v9_28)), (0, .ref (zA G t)), (1, .ref (zA G 44)), (3, .int (iI to_)), (4, .int (iI base)), (5, .int (iI v5_1)), (6, .int (iI v6_26)), (8, .int (iI v8_27)), (9, .int (iI v9_28))] d_n_parse_117 (by decide) rfl ?_
          refine z_iconst C d_n_parse_119 ?_
          refine z_istore C [(12, .int (iI 0)), (10, .long (lL v9_28)), (0, .ref (zA G t)), (1, .ref (zA G 44)), (3, .int (iI to_)), (4, .int (iI base)), (5, .int (iI v5_1)), (6, .int (iI v6_26)), (8, .int (iI v8_27)), (9, .int (iI v9_28))] d_n_parse_120 (by decide) rfl ?_
          refine z_sub [(0, .ref (zA G t)), (1, .ref (zA G 44)), (3, .int (iI to_)), (4, .int (iI base)), (5, .int (iI v5_1)), (6, .int (iI v6_26)), (8, .int (iI v8_27)), (10, .long (lL v9_28)), (12, .int (iI 0))] [2, 3, 4, 5, 6, 7, 8, 1, 0] rfl ?_
          refine (Lo2.walk (P := fun v10_35 v12_36 σ37 => okI v12_36 → Z E G 15 0 0 Q σ37 122 [(0, .ref (zA G t)), (1, .ref (zA G 44)), (3, .int (iI to_)), (4, .int (iI base)), (5, .int (iI v5_1)), (6, .int (iI v6_26)), (8, .int (iI v8_27)), (10, .long (lL v10_35)), (12, .int (iI v12_36))] []) ?_ h) (okI_lit rfl)
          intro v10_35 v12_36 σ37 again39 Hagain39 h ok38
          refine z_iload C 8 d_n_parse_122 rfl ?_
          refine z_iload C 4 d_n_parse_124 rfl ?_
          refine z_icmp_ge C d_n_parse_126 ok38 ok4 (fun hb40 => ?_) (fun hb40 => ?_)
          · have h := h.1 hb40
            refine z_lload C 7 d_n_parse_173 rfl ?_
            refine z_lconst C d_n_parse_175 ?_
            obtain ⟨ok41, h⟩ := h
            refine z_lcmp_eq0 C d_n_parse_176 d_n_parse_177 ok41 (fun hb42 => ?_) (fun hb42 => ?_)
            · have h := h.1 hb42
              refine z_sub [(0, .ref (zA G t)), (1, .ref (zA G 44)), (3, .int (iI to_)), (4, .int (iI base)), (5, .int (iI v5_1)), (6, .int (iI v6_26))] [0, 1, 2, 3, 4, 5] rfl ?_
              exact HJ21 _ _ _ h ok4 ok29
            · have h := h.2 hb42
              refine z_aload_n C 0 d_n_parse_180 rfl ?_
              refine z_nget_d C d_n_parse_181 k_30 h_t ?_
              refine z_iload C 4 d_n_parse_184 rfl ?_
              refine z_iinc C 4 [(5, .int (iI (v5_1 + 1))), (0, .ref (zA G t)), (1, .ref (zA G 44)), (3, .int (iI to_)), (4, .int (iI base)), (6, .int (iI v6_26)), (8, .int (iI v8_27)), (10, .long (lL v10_35)), (12, .int (iI v12_36))] d_n_parse_186 rfl (by decide) rfl ?_
              refine z_lload C 7 d_n_parse_189 rfl ?_
              refine z_l2i C d_n_parse_191 ?_
              obtain ⟨hc43, h⟩ := h
              refine z_iastN C (600) d_n_parse_192 (isN.A h_t) (ln_num h_t) hc43 ?_
              obtain ⟨ok44, h⟩ := h
              refine z_sub [(0, .ref (zA G t)), (1, .ref (zA G 44)), (3, .int (iI to_)), (4, .int (iI base)), (5, .int (iI (v5_1 + 1))), (6, .int (iI v6_26))] [1, 2, 3, 4, 0, 5] rfl ?_
              exact HJ21 _ _ _ h ok44 ok29
          · have h := h.2 hb40
            refine z_aload_n C 0 d_n_parse_129 rfl ?_
            refine z_nget_d C d_n_parse_130 k_30 h_t ?_
            refine z_iload C 8 d_n_parse_133 rfl ?_
            obtain ⟨hc45, h⟩ := h
            refine z_ialdN C (600) d_n_parse_135 (isN.A h_t) (ln_num h_t) hc45 ?_
            obtain ⟨ok46, h⟩ := h
            refine z_i2l C d_n_parse_136 ok46 ?_
            refine z_iload C 6 d_n_parse_137 rfl ?_
            refine z_i2l C d_n_parse_139 ok30 ?_
            refine z_lmul C d_n_parse_140 ?_
            refine z_lload C 7 d_n_parse_141 rfl ?_
            refine z_ladd C d_n_parse_143 ?_
            refine z_namel (fun v13_47 e48 => ?_)
            have h := h v13_47 e48
            refine z_lstore C [(13, .long (lL v13_47)), (0, .ref (zA G t)), (1, .ref (zA G 44)), (3, .int (iI to_)), (4, .int (iI base)), (5, .int (iI v5_1)), (6, .int (iI v6_26)), (8, .int (iI v8_27)), (10, .long (lL v10_35)), (12, .int (iI v12_36))] d_n_parse_144 (by decide) rfl ?_
            refine z_aload_n C 1 d_n_parse_146 rfl ?_
            refine z_nget_d C d_n_parse_147 k_30 h_t ?_
            refine z_iload C 9 d_n_parse_150 rfl ?_
            refine z_lload C 0 d_n_parse_152 rfl ?_
            refine z_ldc2 C d_n_parse_154 k_164 (n := 16777215) (by decide) ?_
            refine z_lmask C 24 16777216 d_n_parse_157 (by decide) (by decide) (by decide) ?_
            refine z_l2i C d_n_parse_158 ?_
            refine z_iastN C (600) d_n_parse_159 (isN.A h_t) (ln_num h_t) hc45 ?_
            refine z_lload C 0 d_n_parse_160 rfl ?_
            refine z_bipush C d_n_parse_162 (by decide) ?_
            refine z_lushrK C 16777216 d_n_parse_164 (by decide) ⟨by decide, by decide⟩ ?_
            refine z_namel (fun v10_49 e50 => ?_)
            have h := h v10_49 e50
            refine z_lstore C [(10, .long (lL v10_49)), (13, .long (lL v13_47)), (0, .ref (zA G t)), (1, .ref (zA G 44)), (3, .int (iI to_)), (4, .int (iI base)), (5, .int (iI v5_1)), (6, .int (iI v6_26)), (8, .int (iI v8_27)), (12, .int (iI v12_36))] d_n_parse_165 (by decide) rfl ?_
            refine z_iinc C 9 [(12, .int (iI (v12_36 + 1))), (10, .long (lL v10_49)), (13, .long (lL v13_47)), (0, .ref (zA G t)), (1, .ref (zA G 44)), (3, .int (iI to_)), (4, .int (iI base)), (5, .int (iI v5_1)), (6, .int (iI v6_26)), (8, .int (iI v8_27))] d_n_parse_167 rfl (by decide) rfl ?_
            refine z_goto C d_n_parse_170 ?_
            obtain ⟨ok51, h⟩ := h
            refine z_sub [(0, .ref (zA G t)), (1, .ref (zA G 44)), (3, .int (iI to_)), (4, .int (iI base)), (5, .int (iI v5_1)), (6, .int (iI v6_26)), (8, .int (iI v8_27)), (10, .long (lL v10_49)), (12, .int (iI (v12_36 + 1)))] [3, 4, 5, 6, 7, 8, 9, 1, 0] rfl ?_
            exact Hagain39 _ _ _ h ok51
        · intro J34 HJ34 h
          refine z_icmp_ge C d_n_parse_51 ok33 h_to_ (fun hb52 => ?_) (fun hb52 => ?_)
          · have h := h.1 hb52
            refine z_sub [(0, .ref (zA G t)), (1, .ref (zA G 44)), (3, .int (iI to_)), (4, .int (iI base)), (5, .int (iI v5_1)), (6, .int (iI v6_26)), (8, .int (iI v8_27)), (9, .int (iI v9_28))] [0, 1, 2, 3, 4, 5, 6, 7] rfl ?_
            exact HJ34 h
          · have h := h.2 hb52
            refine z_iload C 6 d_n_parse_54 rfl ?_
            refine z_ldc C d_n_parse_56 k_261 (n := 16777215) (by decide) ?_
            refine z_iload C 3 d_n_parse_58 rfl ?_
            obtain ⟨hc53, h⟩ := h
            refine z_idiv C d_n_parse_60 ⟨by decide, by decide⟩ hc53 ?_
            obtain ⟨ok54, h⟩ := h
            refine z_icmp_gt C d_n_parse_61 ok30 ok54 (fun hb55 => ?_) (fun hb55 => ?_)
            · have h := h.1 hb55
              refine z_sub [(0, .ref (zA G t)), (1, .ref (zA G 44)), (3, .int (iI to_)), (4, .int (iI base)), (5, .int (iI v5_1)), (6, .int (iI v6_26)), (8, .int (iI v8_27)), (9, .int (iI v9_28))] [0, 1, 2, 3, 4, 5, 6, 7] rfl ?_
              exact HJ34 h
            · have h := h.2 hb55
              refine z_aload_n C 1 d_n_parse_64 rfl ?_
              refine z_iload C 5 d_n_parse_65 rfl ?_
              refine z_iconst C d_n_parse_67 ?_
              refine z_iadd C d_n_parse_68 ?_
              obtain ⟨hc56, h⟩ := h
              refine z_bald C d_n_parse_69 hc56 ?_
              refine z_sipush C d_n_parse_70 (by decide) ?_
              refine z_imask C 8 256 d_n_parse_73 (by decide) (by decide) (by decide) ?_
              refine z_callS C [.int (iI ((σ3 44 (v6_26 + 1)) % 256))] [] 1 d_n_parse_74 (c_n_digit (zl E) G h (okI_mod (by decide) (by decide))) k_247 k_260 k_246 k_2 (by decide)  (by decide +kernel) rfl rfl (Nat.le_of_ble_eq_true rfl) hroom_n_digit (fun r57 _s69 ok58 hq => ?_) (fun _ _ hx => hx.elim)
              obtain ⟨hs_, hk_⟩ := hq
              subst hs_
              have h := hk_
              refine z_iload C 3 d_n_parse_77 rfl ?_
              refine z_icmp_ge C d_n_parse_79 ok58 h_base (fun hb59 => ?_) (fun hb59 => ?_)
              · have h := h.1 hb59
                refine z_sub [(0, .ref (zA G t)), (1, .ref (zA G 44)), (3, .int (iI to_)), (4, .int (iI base)), (5, .int (iI v5_1)), (6, .int (iI v6_26)), (8, .int (iI v8_27)), (9, .int (iI v9_28))] [0, 1, 2, 3, 4, 5, 6, 7] rfl ?_
                exact HJ34 h
              · have h := h.2 hb59
                refine z_iinc C 5 [(6, .int (iI (v6_26 + 1))), (0, .ref (zA G t)), (1, .ref (zA G 44)), (3, .int (iI to_)), (4, .int (iI base)), (5, .int (iI v5_1)), (8, .int (iI v8_27)), (9, .int (iI v9_28))] d_n_parse_82 rfl (by decide) rfl ?_
                refine z_iload C 6 d_n_parse_85 rfl ?_
                refine z_iload C 4 d_n_parse_87 rfl ?_
                refine z_imul C d_n_parse_89 ?_
                refine z_namei (fun v8_60 e61 => ?_)
                have h := h v8_60 e61
                refine z_istore C [(8, .int (iI v8_60)), (6, .int (iI (v6_26 + 1))), (0, .ref (zA G t)), (1, .ref (zA G 44)), (3, .int (iI to_)), (4, .int (iI base)), (5, .int (iI v5_1)), (9, .int (iI v9_28))] d_n_parse_90 (by decide) rfl ?_
                refine z_iload C 7 d_n_parse_92 rfl ?_
                refine z_iload C 5 d_n_parse_94 rfl ?_
                refine z_imul C d_n_parse_96 ?_
                refine z_aload_n C 3 d_n_parse_97 rfl ?_
                refine z_iload C 1 d_n_parse_98 rfl ?_
                refine z_bald C d_n_parse_100 hc56 ?_
                refine z_sipush C d_n_parse_101 (by decide) ?_
                refine z_imask C 8 256 d_n_parse_104 (by decide) (by decide) (by decide) ?_
                refine z_callS C [.int (iI ((σ3 44 (v6_26 + 1)) % 256))] [.int (iI (v9_28 * base))] 1 d_n_parse_105 (c_n_digit (zl E) G h (okI_mod (by decide) (by decide))) k_247 k_260 k_246 k_2 (by decide)  (by decide +kernel) rfl rfl (Nat.le_of_ble_eq_true rfl) hroom_n_digit (fun r62 _s68 ok63 hq => ?_) (fun _ _ hx => hx.elim)
                obtain ⟨hs_, hk_⟩ := hq
                subst hs_
                have h := hk_
                refine z_iadd C d_n_parse_108 ?_
                refine z_namei (fun v9_64 e65 => ?_)
                have h := h v9_64 e65
                refine z_istore C [(9, .int (iI v9_64)), (8, .int (iI v8_60)), (6, .int (iI (v6_26 + 1))), (0, .ref (zA G t)), (1, .ref (zA G 44)), (3, .int (iI to_)), (4, .int (iI base)), (5, .int (iI v5_1))] d_n_parse_109 (by decide) rfl ?_
                refine z_goto C d_n_parse_111 ?_
                obtain ⟨ok66, h⟩ := h
                obtain ⟨ok67, h⟩ := h
                refine z_sub [(0, .ref (zA G t)), (1, .ref (zA G 44)), (3, .int (iI to_)), (4, .int (iI base)), (5, .int (iI v5_1)), (6, .int (iI (v6_26 + 1))), (8, .int (iI v8_60)), (9, .int (iI v9_64))] [3, 4, 5, 6, 7, 2, 1, 0] rfl ?_
                exact Hagain32 _ _ _ h ok33 ok66 ok67
      · have h := h.2 hb23
        refine z_goto C d_n_parse_32 ?_
        refine z_sub [(0, .ref (zA G t)), (1, .ref (zA G 44)), (3, .int (iI to_)), (4, .int (iI base)), (5, .int (iI v5_1)), (6, .int (iI v6_2))] [1, 2, 3, 4, 5, 6] rfl ?_
        exact HJ21 _ _ _ h ok4 ok5
theorem d_n_text_0 : DD b_n_text 0 (.iconst 1) 1 1 := ⟨by decide +kernel, rfl⟩
theorem d_n_text_1 : DD b_n_text 1 (.istore 4) 2 3 := ⟨by decide +kernel, rfl⟩
theorem d_n_text_3 : DD b_n_text 3 (.iload_n 3) 1 4 := ⟨by decide +kernel, rfl⟩
theorem d_n_text_4 : DD b_n_text 4 (.istore 5) 2 6 := ⟨by decide +kernel, rfl⟩
theorem d_n_text_6 : DD b_n_text 6 (.iload_n 2) 1 7 := ⟨by decide +kernel, rfl⟩
theorem d_n_text_7 : DD b_n_text 7 (.istore 6) 2 9 := ⟨by decide +kernel, rfl⟩
theorem d_n_text_9 : DD b_n_text 9 (.aload_n 0) 1 10 := ⟨by decide +kernel, rfl⟩
theorem d_n_text_10 : DD b_n_text 10 (.getfield 17) 3 13 := ⟨by decide +kernel, rfl⟩
theorem d_n_text_13 : DD b_n_text 13 (.istore 7) 2 15 := ⟨by decide +kernel, rfl⟩
theorem d_n_text_15 : DD b_n_text 15 (.aload_n 0) 1 16 := ⟨by decide +kernel, rfl⟩
theorem d_n_text_16 : DD b_n_text 16 (.getfield 13) 3 19 := ⟨by decide +kernel, rfl⟩
theorem d_n_text_19 : DB b_n_text 19 (.ifCond .ne 12) 12 22 31 := ⟨by decide +kernel, rfl, rfl⟩
theorem d_n_text_22 : DD b_n_text 22 (.aload_n 1) 1 23 := ⟨by decide +kernel, rfl⟩
theorem d_n_text_23 : DD b_n_text 23 (.iload 6) 2 25 := ⟨by decide +kernel, rfl⟩
theorem d_n_text_25 : DD b_n_text 25 (.iinc 6 1) 3 28 := ⟨by decide +kernel, rfl⟩
theorem d_n_text_28 : DD b_n_text 28 (.bipush 48) 2 30 := ⟨by decide +kernel, rfl⟩
theorem d_n_text_30 : DD b_n_text 30 .bastore 1 31 := ⟨by decide +kernel, rfl⟩
theorem d_n_text_31 : DD b_n_text 31 (.iload 5) 2 33 := ⟨by decide +kernel, rfl⟩
theorem d_n_text_33 : DD b_n_text 33 (.ldc 50) 2 35 := ⟨by decide +kernel, rfl⟩
theorem d_n_text_35 : DD b_n_text 35 (.iload_n 3) 1 36 := ⟨by decide +kernel, rfl⟩
theorem d_n_text_36 : DD b_n_text 36 .idiv 1 37 := ⟨by decide +kernel, rfl⟩
theorem d_n_text_37 : DB b_n_text 37 (.if_icmp .gt 15) 15 40 52 := ⟨by decide +kernel, rfl, rfl⟩
theorem d_n_text_40 : DD b_n_text 40 (.iload 5) 2 42 := ⟨by decide +kernel, rfl⟩
theorem d_n_text_42 : DD b_n_text 42 (.iload_n 3) 1 43 := ⟨by decide +kernel, rfl⟩
theorem d_n_text_43 : DD b_n_text 43 .imul 1 44 := ⟨by decide +kernel, rfl⟩
theorem d_n_text_44 : DD b_n_text 44 (.istore 5) 2 46 := ⟨by decide +kernel, rfl⟩
theorem d_n_text_46 : DD b_n_text 46 (.iinc 4 1) 3 49 := ⟨by decide +kernel, rfl⟩
theorem d_n_text_49 : DB b_n_text 49 (.goto (-18)) (-18) 52 31 := ⟨by decide +kernel, rfl, rfl⟩
theorem d_n_text_52 : DD b_n_text 52 (.aload_n 0) 1 53 := ⟨by decide +kernel, rfl⟩
theorem d_n_text_53 : DD b_n_text 53 (.getfield 13) 3 56 := ⟨by decide +kernel, rfl⟩
theorem d_n_text_56 : DB b_n_text 56 (.ifCond .le 151) 151 59 207 := ⟨by decide +kernel, rfl, rfl⟩
theorem d_n_text_59 : DD b_n_text 59 (.lconst 0) 1 60 := ⟨by decide +kernel, rfl⟩
theorem d_n_text_60 : DD b_n_text 60 (.lstore 8) 2 62 := ⟨by decide +kernel, rfl⟩
theorem d_n_text_62 : DD b_n_text 62 (.aload_n 0) 1 63 := ⟨by decide +kernel, rfl⟩
theorem d_n_text_63 : DD b_n_text 63 (.getfield 13) 3 66 := ⟨by decide +kernel, rfl⟩
theorem d_n_text_66 : DD b_n_text 66 (.iconst 1) 1 67 := ⟨by decide +kernel, rfl⟩
theorem d_n_text_67 : DD b_n_text 67 .isub 1 68 := ⟨by decide +kernel, rfl⟩
theorem d_n_text_68 : DD b_n_text 68 (.istore 10) 2 70 := ⟨by decide +kernel, rfl⟩
theorem d_n_text_70 : DD b_n_text 70 (.iload 10) 2 72 := ⟨by decide +kernel, rfl⟩
theorem d_n_text_72 : DB b_n_text 72 (.ifCond .lt 47) 47 75 119 := ⟨by decide +kernel, rfl, rfl⟩
theorem d_n_text_75 : DD b_n_text 75 (.lload 8) 2 77 := ⟨by decide +kernel, rfl⟩
theorem d_n_text_77 : DD b_n_text 77 (.bipush 24) 2 79 := ⟨by decide +kernel, rfl⟩
theorem d_n_text_79 : DD b_n_text 79 .lshl 1 80 := ⟨by decide +kernel, rfl⟩
theorem d_n_text_80 : DD b_n_text 80 (.aload_n 0) 1 81 := ⟨by decide +kernel, rfl⟩
theorem d_n_text_81 : DD b_n_text 81 (.getfield 9) 3 84 := ⟨by decide +kernel, rfl⟩
theorem d_n_text_84 : DD b_n_text 84 (.iload 10) 2 86 := ⟨by decide +kernel, rfl⟩
theorem d_n_text_86 : DD b_n_text 86 .iaload 1 87 := ⟨by decide +kernel, rfl⟩
theorem d_n_text_87 : DD b_n_text 87 .i2l 1 88 := ⟨by decide +kernel, rfl⟩
theorem d_n_text_88 : DD b_n_text 88 .lor 1 89 := ⟨by decide +kernel, rfl⟩
theorem d_n_text_89 : DD b_n_text 89 (.lstore 11) 2 91 := ⟨by decide +kernel, rfl⟩
theorem d_n_text_91 : DD b_n_text 91 (.aload_n 0) 1 92 := ⟨by decide +kernel, rfl⟩
theorem d_n_text_92 : DD b_n_text 92 (.getfield 9) 3 95 := ⟨by decide +kernel, rfl⟩
theorem d_n_text_95 : DD b_n_text 95 (.iload 10) 2 97 := ⟨by decide +kernel, rfl⟩
theorem d_n_text_97 : DD b_n_text 97 (.lload 11) 2 99 := ⟨by decide +kernel, rfl⟩
theorem d_n_text_99 : DD b_n_text 99 (.iload 5) 2 101 := ⟨by decide +kernel, rfl⟩
theorem d_n_text_101 : DD b_n_text 101 .i2l 1 102 := ⟨by decide +kernel, rfl⟩
theorem d_n_text_102 : DD b_n_text 102 .ldiv 1 103 := ⟨by decide +kernel, rfl⟩
theorem d_n_text_103 : DD b_n_text 103 .l2i 1 104 := ⟨by decide +kernel, rfl⟩
theorem d_n_text_104 : DD b_n_text 104 .iastore 1 105 := ⟨by decide +kernel, rfl⟩
theorem d_n_text_105 : DD b_n_text 105 (.lload 11) 2 107 := ⟨by decide +kernel, rfl⟩
theorem d_n_text_107 : DD b_n_text 107 (.iload 5) 2 109 := ⟨by decide +kernel, rfl⟩
theorem d_n_text_109 : DD b_n_text 109 .i2l 1 110 := ⟨by decide +kernel, rfl⟩
theorem d_n_text_110 : DD b_n_text 110 .lrem 1 111 := ⟨by decide +kernel, rfl⟩
theorem d_n_text_111 : DD b_n_text 111 (.lstore 8) 2 113 := ⟨by decide +kernel, rfl⟩
theorem d_n_text_113 : DD b_n_text 113 (.iinc 10 (-1)) 3 116 := ⟨by decide +kernel, rfl⟩
theorem d_n_text_116 : DB b_n_text 116 (.goto (-46)) (-46) 119 70 := ⟨by decide +kernel, rfl, rfl⟩
theorem d_n_text_119 : DD b_n_text 119 (.aload_n 0) 1 120 := ⟨by decide +kernel, rfl⟩
theorem d_n_text_120 : DD b_n_text 120 (.aload_n 0) 1 121 := ⟨by decide +kernel, rfl⟩
theorem d_n_text_121 : DD b_n_text 121 (.getfield 13) 3 124 := ⟨by decide +kernel, rfl⟩
theorem d_n_text_124 : DD b_n_text 124 (.iconst 1) 1 125 := ⟨by decide +kernel, rfl⟩
theorem d_n_text_125 : DD b_n_text 125 (.invokevirtual 22) 3 128 := ⟨by decide +kernel, rfl⟩
theorem d_n_text_128 : DD b_n_text 128 (.iconst 0) 1 129 := ⟨by decide +kernel, rfl⟩
theorem d_n_text_129 : DD b_n_text 129 (.istore 10) 2 131 := ⟨by decide +kernel, rfl⟩
theorem d_n_text_131 : DD b_n_text 131 (.iload 10) 2 133 := ⟨by decide +kernel, rfl⟩
theorem d_n_text_133 : DD b_n_text 133 (.iload 4) 2 135 := ⟨by decide +kernel, rfl⟩
theorem d_n_text_135 : DB b_n_text 135 (.if_icmp .ge 69) 69 138 204 := ⟨by decide +kernel, rfl, rfl⟩
theorem d_n_text_138 : DD b_n_text 138 (.aload_n 0) 1 139 := ⟨by decide +kernel, rfl⟩
theorem d_n_text_139 : DD b_n_text 139 (.getfield 13) 3 142 := ⟨by decide +kernel, rfl⟩
theorem d_n_text_142 : DB b_n_text 142 (.ifCond .gt 10) 10 145 152 := ⟨by decide +kernel, rfl, rfl⟩
theorem d_n_text_145 : DD b_n_text 145 (.lload 8) 2 147 := ⟨by decide +kernel, rfl⟩
theorem d_n_text_147 : DD b_n_text 147 (.lconst 0) 1 148 := ⟨by decide +kernel, rfl⟩
theorem d_n_text_148 : DD b_n_text 148 .lcmp 1 149 := ⟨by decide +kernel, rfl⟩
theorem d_n_text_149 : DB b_n_text 149 (.ifCond .le 55) 55 152 204 := ⟨by decide +kernel, rfl, rfl⟩
theorem d_n_text_152 : DD b_n_text 152 (.lload 8) 2 154 := ⟨by decide +kernel, rfl⟩
theorem d_n_text_154 : DD b_n_text 154 (.iload_n 3) 1 155 := ⟨by decide +kernel, rfl⟩
theorem d_n_text_155 : DD b_n_text 155 .i2l 1 156 := ⟨by decide +kernel, rfl⟩
theorem d_n_text_156 : DD b_n_text 156 .lrem 1 157 := ⟨by decide +kernel, rfl⟩
theorem d_n_text_157 : DD b_n_text 157 .l2i 1 158 := ⟨by decide +kernel, rfl⟩
theorem d_n_text_158 : DD b_n_text 158 (.istore 11) 2 160 := ⟨by decide +kernel, rfl⟩
theorem d_n_text_160 : DD b_n_text 160 (.aload_n 1) 1 161 := ⟨by decide +kernel, rfl⟩
theorem d_n_text_161 : DD b_n_text 161 (.iload 6) 2 163 := ⟨by decide +kernel, rfl⟩
theorem d_n_text_163 : DD b_n_text 163 (.iinc 6 1) 3 166 := ⟨by decide +kernel, rfl⟩
theorem d_n_text_166 : DD b_n_text 166 (.iload 11) 2 168 := ⟨by decide +kernel, rfl⟩
theorem d_n_text_168 : DD b_n_text 168 (.bipush 10) 2 170 := ⟨by decide +kernel, rfl⟩
theorem d_n_text_170 : DB b_n_text 170 (.if_icmp .ge 11) 11 173 181 := ⟨by decide +kernel, rfl, rfl⟩
theorem d_n_text_173 : DD b_n_text 173 (.bipush 48) 2 175 := ⟨by decide +kernel, rfl⟩
theorem d_n_text_175 : DD b_n_text 175 (.iload 11) 2 177 := ⟨by decide +kernel, rfl⟩
theorem d_n_text_177 : DD b_n_text 177 .iadd 1 178 := ⟨by decide +kernel, rfl⟩
theorem d_n_text_178 : DB b_n_text 178 (.goto 11) 11 181 189 := ⟨by decide +kernel, rfl, rfl⟩
theorem d_n_text_181 : DD b_n_text 181 (.bipush 97) 2 183 := ⟨by decide +kernel, rfl⟩
theorem d_n_text_183 : DD b_n_text 183 (.iload 11) 2 185 := ⟨by decide +kernel, rfl⟩
theorem d_n_text_185 : DD b_n_text 185 .iadd 1 186 := ⟨by decide +kernel, rfl⟩
theorem d_n_text_186 : DD b_n_text 186 (.bipush 10) 2 188 := ⟨by decide +kernel, rfl⟩
theorem d_n_text_188 : DD b_n_text 188 .isub 1 189 := ⟨by decide +kernel, rfl⟩
theorem d_n_text_189 : DD b_n_text 189 .i2b 1 190 := ⟨by decide +kernel, rfl⟩
theorem d_n_text_190 : DD b_n_text 190 .bastore 1 191 := ⟨by decide +kernel, rfl⟩
theorem d_n_text_191 : DD b_n_text 191 (.lload 8) 2 193 := ⟨by decide +kernel, rfl⟩
theorem d_n_text_193 : DD b_n_text 193 (.iload_n 3) 1 194 := ⟨by decide +kernel, rfl⟩
theorem d_n_text_194 : DD b_n_text 194 .i2l 1 195 := ⟨by decide +kernel, rfl⟩
theorem d_n_text_195 : DD b_n_text 195 .ldiv 1 196 := ⟨by decide +kernel, rfl⟩
theorem d_n_text_196 : DD b_n_text 196 (.lstore 8) 2 198 := ⟨by decide +kernel, rfl⟩
theorem d_n_text_198 : DD b_n_text 198 (.iinc 10 1) 3 201 := ⟨by decide +kernel, rfl⟩
theorem d_n_text_201 : DB b_n_text 201 (.goto (-70)) (-70) 204 131 := ⟨by decide +kernel, rfl, rfl⟩
theorem d_n_text_204 : DB b_n_text 204 (.goto (-152)) (-152) 207 52 := ⟨by decide +kernel, rfl, rfl⟩
theorem d_n_text_207 : DD b_n_text 207 (.iload 7) 2 209 := ⟨by decide +kernel, rfl⟩
theorem d_n_text_209 : DB b_n_text 209 (.ifCond .ge 12) 12 212 221 := ⟨by decide +kernel, rfl, rfl⟩
theorem d_n_text_212 : DD b_n_text 212 (.aload_n 1) 1 213 := ⟨by decide +kernel, rfl⟩
theorem d_n_text_213 : DD b_n_text 213 (.iload 6) 2 215 := ⟨by decide +kernel, rfl⟩
theorem d_n_text_215 : DD b_n_text 215 (.iinc 6 1) 3 218 := ⟨by decide +kernel, rfl⟩
theorem d_n_text_218 : DD b_n_text 218 (.bipush 45) 2 220 := ⟨by decide +kernel, rfl⟩
theorem d_n_text_220 : DD b_n_text 220 .bastore 1 221 := ⟨by decide +kernel, rfl⟩
theorem d_n_text_221 : DD b_n_text 221 (.iload 6) 2 223 := ⟨by decide +kernel, rfl⟩
theorem d_n_text_223 : DD b_n_text 223 (.iload_n 2) 1 224 := ⟨by decide +kernel, rfl⟩
theorem d_n_text_224 : DD b_n_text 224 .isub 1 225 := ⟨by decide +kernel, rfl⟩
theorem d_n_text_225 : DD b_n_text 225 .ireturn 1 226 := ⟨by decide +kernel, rfl⟩
set_option maxRecDepth 20000 in
set_option maxHeartbeats 4000000 in
theorem c_n_text (l : Launch) (G : ZG) {t at_ base : Int} {σ : Mem} {K : Int → Mem → Prop} (h : wp_n_text t at_ base σ K) (h_t : isN t) (h_at_ : okI at_) (h_base : okI base) : Ct l G y_n_text (.code y_n_text b_n_text 13 (some .int)) { frames := 1, cells := 0, slots := 0, locals := 22 } 0 0 1 [.ref (zA G t), .ref (zA G 44), .int (iI at_), .int (iI base)] σ K (fun _ _ => False) := by
  unfold wp_n_text at h
  refine Ct.ofZ [(0, .ref (zA G t)), (1, .ref (zA G 44)), (2, .int (iI at_)), (3, .int (iI base))] "LimbDesk$Num" (by decide) rfl (Nat.le_of_ble_eq_true rfl) rfl ?_
  intro E hR hlE C hr hX
  subst hlE
  have hroom_n_trim : 0 + 1 ≤ (zR E).frames ∧ 8 + (3 + 11) + 0 ≤ (zR E).locals ∧ 0 + 0 ≤ (zR E).cells ∧ 0 + 0 ≤ (zR E).slots := by rw [hR]; decide
  clear hR
  obtain ⟨Q, hQ⟩ : ∃ Q, Q = MQX G (zb E) 1 K (fun _ _ => False) (zs E) 0 0 0 0 := ⟨_, rfl⟩
  show Z E G 13 0 0 (MQX G (zb E) 1 K (fun _ _ => False) (zs E) 0 0 0 0) σ 0 [(0, .ref (zA G t)), (1, .ref (zA G 44)), (2, .int (iI at_)), (3, .int (iI base))] []
  rw [← hQ]
  refine z_iconst C d_n_text_0 ?_
  refine z_istore C [(4, .int (iI 1)), (0, .ref (zA G t)), (1, .ref (zA G 44)), (2, .int (iI at_)), (3, .int (iI base))] d_n_text_1 (by decide) rfl ?_
  refine z_iload_n C 4 d_n_text_3 rfl ?_
  refine z_istore C [(5, .int (iI base)), (4, .int (iI 1)), (0, .ref (zA G t)), (1, .ref (zA G 44)), (2, .int (iI at_)), (3, .int (iI base))] d_n_text_4 (by decide) rfl ?_
  refine z_iload_n C 4 d_n_text_6 rfl ?_
  refine z_istore C [(6, .int (iI at_)), (5, .int (iI base)), (4, .int (iI 1)), (0, .ref (zA G t)), (1, .ref (zA G 44)), (2, .int (iI at_)), (3, .int (iI base))] d_n_text_7 (by decide) rfl ?_
  refine z_aload_n C 3 d_n_text_9 rfl ?_
  refine z_nget_sign C d_n_text_10 k_33 h_t ?_
  refine z_namei (fun v7_1 e2 => ?_)
  have h := h v7_1 e2
  refine z_istore C [(7, .int (iI v7_1)), (6, .int (iI at_)), (5, .int (iI base)), (4, .int (iI 1)), (0, .ref (zA G t)), (1, .ref (zA G 44)), (2, .int (iI at_)), (3, .int (iI base))] d_n_text_13 (by decide) rfl ?_
  refine z_aload_n C 4 d_n_text_15 rfl ?_
  refine z_nget_n C d_n_text_16 k_32 h_t ?_
  obtain ⟨ok3, h⟩ := h
  refine Jo1.walk (fun v6_4 σ5 => okI v6_4 → Z E G 13 0 0 Q σ5 31 [(0, .ref (zA G t)), (1, .ref (zA G 44)), (2, .int (iI at_)), (3, .int (iI base)), (4, .int (iI 1)), (5, .int (iI base)), (6, .int (iI v6_4)), (7, .int (iI v7_1))] []) h ?_ ?_
  · intro v6_4 σ5 h ok6
    refine z_sub [(0, .ref (zA G t)), (1, .ref (zA G 44)), (2, .int (iI at_)), (3, .int (iI base)), (4, .int (iI 1)), (5, .int (iI base)), (6, .int (iI v6_4)), (7, .int (iI v7_1))] [0, 1, 2, 3, 4, 5, 6, 7] rfl ?_
    refine (Lq2.walk (P := fun v4_8 v5_9 => okI v4_8 → okI v5_9 → Z E G 13 0 0 Q σ5 31 [(0, .ref (zA G t)), (1, .ref (zA G 44)), (2, .int (iI at_)), (3, .int (iI base)), (4, .int (iI v4_8)), (5, .int (iI v5_9)), (6, .int (iI v6_4)), (7, .int (iI v7_1))] []) ?_ h) (okI_lit rfl) h_base
    intro v4_8 v5_9 again12 Hagain12 h ok10 ok11
    refine z_iload C 5 d_n_text_31 rfl ?_
    refine z_ldc C d_n_text_33 k_261 (n := 16777215) (by decide) ?_
    refine z_iload_n C 3 d_n_text_35 rfl ?_
    obtain ⟨hc13, h⟩ := h
    refine z_idiv C d_n_text_36 ⟨by decide, by decide⟩ hc13 ?_
    obtain ⟨ok14, h⟩ := h
    refine z_icmp_gt C d_n_text_37 ok11 ok14 (fun hb15 => ?_) (fun hb15 => ?_)
    · have h := h.1 hb15
      refine z_sub [(0, .ref (zA G t)), (1, .ref (zA G 44)), (2, .int (iI at_)), (3, .int (iI base)), (4, .int (iI v4_8)), (5, .int (iI v5_9)), (6, .int (iI v6_4)), (7, .int (iI v7_1))] [0, 1, 2, 3, 4, 5, 6, 7] rfl ?_
      refine (Lo1.walk (P := fun v6_16 σ17 => okI v6_16 → Z E G 13 0 0 Q σ17 52 [(0, .ref (zA G t)), (1, .ref (zA G 44)), (2, .int (iI at_)), (3, .int (iI base)), (4, .int (iI v4_8)), (5, .int (iI v5_9)), (6, .int (iI v6_16)), (7, .int (iI v7_1))] []) ?_ h) ok6
      intro v6_16 σ17 again19 Hagain19 h ok18
      refine z_aload_n C 0 d_n_text_52 rfl ?_
      refine z_nget_n C d_n_text_53 k_32 h_t ?_
      obtain ⟨ok20, h⟩ := h
      refine z_if_le C d_n_text_56 ok20 (fun hb21 => ?_) (fun hb21 => ?_)
      · have h := h.1 hb21
        refine z_iload C 7 d_n_text_207 rfl ?_
        obtain ⟨ok22, h⟩ := h
        refine z_if_ge C d_n_text_209 ok22 (fun hb23 => ?_) (fun hb23 => ?_)
        · have h := h.1 hb23
          refine z_iload C 6 d_n_text_221 rfl ?_
          refine z_iload_n C 2 d_n_text_223 rfl ?_
          refine z_isub C d_n_text_224 ?_
          obtain ⟨ok24, h⟩ := h
          subst hQ
          exact z_ireturn C d_n_text_225.1 hr ⟨Nat.zero_le _, Nat.zero_le _⟩ ok24 h
        · have h := h.2 hb23
          refine z_aload_n C 1 d_n_text_212 rfl ?_
          refine z_iload C 6 d_n_text_213 rfl ?_
          refine z_iinc C 6 [(6, .int (iI (v6_16 + 1))), (0, .ref (zA G t)), (1, .ref (zA G 44)), (2, .int (iI at_)), (3, .int (iI base)), (4, .int (iI v4_8)), (5, .int (iI v5_9)), (7, .int (iI v7_1))] d_n_text_215 rfl (by decide) rfl ?_
          refine z_bipush C d_n_text_218 (by decide) ?_
          obtain ⟨hc25, h⟩ := h
          refine z_bast C d_n_text_220 hc25 ⟨by decide, by decide⟩ ?_
          refine z_iload C 0 d_n_text_221 rfl ?_
          refine z_iload_n C 3 d_n_text_223 rfl ?_
          refine z_isub C d_n_text_224 ?_
          obtain ⟨ok26, h⟩ := h
          subst hQ
          exact z_ireturn C d_n_text_225.1 hr ⟨Nat.zero_le _, Nat.zero_le _⟩ ok26 h
      · have h := h.2 hb21
        refine z_lconst C d_n_text_59 ?_
        refine z_lstore C [(8, .long (lL 0)), (0, .ref (zA G t)), (1, .ref (zA G 44)), (2, .int (iI at_)), (3, .int (iI base)), (4, .int (iI v4_8)), (5, .int (iI v5_9)), (6, .int (iI v6_16)), (7, .int (iI v7_1))] d_n_text_60 (by decide) rfl ?_
        refine z_aload_n C 1 d_n_text_62 rfl ?_
        refine z_nget_n C d_n_text_63 k_32 h_t ?_
        refine z_iconst C d_n_text_66 ?_
        refine z_isub C d_n_text_67 ?_
        refine z_namei (fun v10_27 e28 => ?_)
        have h := h v10_27 e28
        refine z_istore C [(10, .int (iI v10_27)), (8, .long (lL 0)), (0, .ref (zA G t)), (1, .ref (zA G 44)), (2, .int (iI at_)), (3, .int (iI base)), (4, .int (iI v4_8)), (5, .int (iI v5_9)), (6, .int (iI v6_16)), (7, .int (iI v7_1))] d_n_text_68 (by decide) rfl ?_
        obtain ⟨ok31, h⟩ := h
        refine z_sub [(0, .ref (zA G t)), (1, .ref (zA G 44)), (2, .int (iI at_)), (3, .int (iI base)), (4, .int (iI v4_8)), (5, .int (iI v5_9)), (6, .int (iI v6_16)), (7, .int (iI v7_1)), (8, .long (lL 0)), (10, .int (iI v10_27))] [2, 3, 4, 5, 6, 7, 8, 9, 1, 0] rfl ?_
        refine (Lo2.walk (P := fun v8_29 v10_30 σ32 => okI v10_30 → Z E G 13 0 0 Q σ32 70 [(0, .ref (zA G t)), (1, .ref (zA G 44)), (2, .int (iI at_)), (3, .int (iI base)), (4, .int (iI v4_8)), (5, .int (iI v5_9)), (6, .int (iI v6_16)), (7, .int (iI v7_1)), (8, .long (lL v8_29)), (10, .int (iI v10_30))] []) ?_ h) ok31
        intro v8_29 v10_30 σ32 again34 Hagain34 h ok33
        refine z_iload C 9 d_n_text_70 rfl ?_
        refine z_if_lt C d_n_text_72 ok33 (fun hb35 => ?_) (fun hb35 => ?_)
        · have h := h.1 hb35
          refine z_aload_n C 0 d_n_text_119 rfl ?_
          refine z_aload_n C 0 d_n_text_120 rfl ?_
          refine z_nget_n C d_n_text_121 k_32 h_t ?_
          refine z_iconst C d_n_text_124 ?_
          obtain ⟨ok36, h⟩ := h
          refine z_callV C "LimbDesk$Num" [.int (iI (σ32 t 1)), .int (iI 1)] [] 2 d_n_text_125 (c_n_trim (zl E) G h h_t ok36 (okI_lit rfl)) k_168 k_165 k_167 k_s2 k_2 (by decide) (recv_N C h_t) (by decide +kernel) rfl rfl (Nat.le_of_ble_eq_true rfl) hroom_n_trim (fun _r σ37 ok38 hq => ?_) (fun _ _ hx => hx.elim)
          have h := hq
          refine z_iconst C d_n_text_128 ?_
          refine z_istore C [(10, .int (iI 0)), (0, .ref (zA G t)), (1, .ref (zA G 44)), (2, .int (iI at_)), (3, .int (iI base)), (4, .int (iI v4_8)), (5, .int (iI v5_9)), (6, .int (iI v6_16)), (7, .int (iI v7_1)), (8, .long (lL v8_29))] d_n_text_129 (by decide) rfl ?_
          refine z_sub [(0, .ref (zA G t)), (1, .ref (zA G 44)), (2, .int (iI at_)), (3, .int (iI base)), (4, .int (iI v4_8)), (5, .int (iI v5_9)), (6, .int (iI v6_16)), (7, .int (iI v7_1)), (8, .long (lL v8_29)), (10, .int (iI 0))] [1, 2, 3, 4, 5, 6, 7, 8, 9, 0] rfl ?_
          refine (Lo3.walk (P := fun v6_39 v8_40 v10_41 σ42 => okI v6_39 → okI v10_41 → Z E G 13 0 0 Q σ42 131 [(0, .ref (zA G t)), (1, .ref (zA G 44)), (2, .int (iI at_)), (3, .int (iI base)), (4, .int (iI v4_8)), (5, .int (iI v5_9)), (6, .int (iI v6_39)), (7, .int (iI v7_1)), (8, .long (lL v8_40)), (10, .int (iI v10_41))] []) ?_ h) ok18 (okI_lit rfl)
          intro v6_39 v8_40 v10_41 σ42 again45 Hagain45 h ok43 ok44
          refine z_iload C 9 d_n_text_131 rfl ?_
          refine z_iload C 4 d_n_text_133 rfl ?_
          refine Jq0.walk (Z E G 13 0 0 Q σ42 204 [(0, .ref (zA G t)), (1, .ref (zA G 44)), (2, .int (iI at_)), (3, .int (iI base)), (4, .int (iI v4_8)), (5, .int (iI v5_9)), (6, .int (iI v6_39)), (7, .int (iI v7_1))] []) h ?_ ?_
          · intro h
            refine z_goto C d_n_text_204 ?_
            refine z_sub [(0, .ref (zA G t)), (1, .ref (zA G 44)), (2, .int (iI at_)), (3, .int (iI base)), (4, .int (iI v4_8)), (5, .int (iI v5_9)), (6, .int (iI v6_39)), (7, .int (iI v7_1))] [0, 1, 2, 3, 4, 5, 6, 7] rfl ?_
            exact Hagain19 _ _ h ok43
          · intro J46 HJ46 h
            refine z_icmp_ge C d_n_text_135 ok44 ok10 (fun hb47 => ?_) (fun hb47 => ?_)
            · have h := h.1 hb47
              refine z_sub [(0, .ref (zA G t)), (1, .ref (zA G 44)), (2, .int (iI at_)), (3, .int (iI base)), (4, .int (iI v4_8)), (5, .int (iI v5_9)), (6, .int (iI v6_39)), (7, .int (iI v7_1))] [0, 1, 2, 3, 4, 5, 6, 7] rfl ?_
              exact HJ46 h
            · have h := h.2 hb47
              refine z_aload_n C 0 d_n_text_138 rfl ?_
              refine z_nget_n C d_n_text_139 k_32 h_t ?_
              obtain ⟨ok48, h⟩ := h
              refine Jq0.walk (Z E G 13 0 0 Q σ42 152 [(0, .ref (zA G t)), (1, .ref (zA G 44)), (2, .int (iI at_)), (3, .int (iI base)), (4, .int (iI v4_8)), (5, .int (iI v5_9)), (6, .int (iI v6_39)), (7, .int (iI v7_1)), (8, .long (lL v8_40)), (10, .int (iI v10_41))] []) h ?_ ?_
              · intro h
                refine z_lload C 8 d_n_text_152 rfl ?_
                refine z_iload_n C 3 d_n_text_154 rfl ?_
                refine z_i2l C d_n_text_155 h_base ?_
                obtain ⟨hc50, h⟩ := h
                obtain ⟨hc51, h⟩ := h
                refine z_lrem C d_n_text_156 hc50 hc51 ?_
                refine z_l2i C d_n_text_157 ?_
                refine z_namei (fun v11_52 e53 => ?_)
                have h := h v11_52 e53
                refine z_istore C [(11, .int (iI v11_52)), (0, .ref (zA G t)), (1, .ref (zA G 44)), (2, .int (iI at_)), (3, .int (iI base)), (4, .int (iI v4_8)), (5, .int (iI v5_9)), (6, .int (iI v6_39)), (7, .int (iI v7_1)), (8, .long (lL v8_40)), (10, .int (iI v10_41))] d_n_text_158 (by decide) rfl ?_
                refine z_aload_n C 2 d_n_text_160 rfl ?_
                refine z_iload C 7 d_n_text_161 rfl ?_
                refine z_iinc C 7 [(6, .int (iI (v6_39 + 1))), (11, .int (iI v11_52)), (0, .ref (zA G t)), (1, .ref (zA G 44)), (2, .int (iI at_)), (3, .int (iI base)), (4, .int (iI v4_8)), (5, .int (iI v5_9)), (7, .int (iI v7_1)), (8, .long (lL v8_40)), (10, .int (iI v10_41))] d_n_text_163 rfl (by decide) rfl ?_
                refine z_iload C 1 d_n_text_166 rfl ?_
                refine z_bipush C d_n_text_168 (by decide) ?_
                obtain ⟨ok54, h⟩ := h
                have hj : ∀ s56 : Int, s56 = (if 10 ≤ v11_52 then ((97 + v11_52) - 10) else (48 + v11_52)) → Z E G 13 0 0 Q σ42 189 [(6, .int (iI (v6_39 + 1))), (11, .int (iI v11_52)), (0, .ref (zA G t)), (1, .ref (zA G 44)), (2, .int (iI at_)), (3, .int (iI base)), (4, .int (iI v4_8)), (5, .int (iI v5_9)), (7, .int (iI v7_1)), (8, .long (lL v8_40)), (10, .int (iI v10_41))] [.int (iI s56), .int (iI v6_39), .ref (zA G 44)] := by
                  intro s56 e57
                  have h := h s56 e57
                  refine z_i2b C d_n_text_189 ?_
                  obtain ⟨hc58, h⟩ := h
                  obtain ⟨hc59, h⟩ := h
                  refine z_bast C d_n_text_190 hc58 hc59 ?_
                  refine z_lload C 9 d_n_text_191 rfl ?_
                  refine z_iload_n C 5 d_n_text_193 rfl ?_
                  refine z_i2l C d_n_text_194 h_base ?_
                  refine z_ldiv C d_n_text_195 hc50 hc51 ?_
                  refine z_namel (fun v8_60 e61 => ?_)
                  have h := h v8_60 e61
                  refine z_lstore C [(8, .long (lL v8_60)), (6, .int (iI (v6_39 + 1))), (11, .int (iI v11_52)), (0, .ref (zA G t)), (1, .ref (zA G 44)), (2, .int (iI at_)), (3, .int (iI base)), (4, .int (iI v4_8)), (5, .int (iI v5_9)), (7, .int (iI v7_1)), (10, .int (iI v10_41))] d_n_text_196 (by decide) rfl ?_
                  refine z_iinc C 10 [(10, .int (iI (v10_41 + 1))), (8, .long (lL v8_60)), (6, .int (iI (v6_39 + 1))), (11, .int (iI v11_52)), (0, .ref (zA G t)), (1, .ref (zA G 44)), (2, .int (iI at_)), (3, .int (iI base)), (4, .int (iI v4_8)), (5, .int (iI v5_9)), (7, .int (iI v7_1))] d_n_text_198 rfl (by decide) rfl ?_
                  refine z_goto C d_n_text_201 ?_
                  obtain ⟨ok62, h⟩ := h
                  obtain ⟨ok63, h⟩ := h
                  refine z_sub [(0, .ref (zA G t)), (1, .ref (zA G 44)), (2, .int (iI at_)), (3, .int (iI base)), (4, .int (iI v4_8)), (5, .int (iI v5_9)), (6, .int (iI (v6_39 + 1))), (7, .int (iI v7_1)), (8, .long (lL v8_60)), (10, .int (iI (v10_41 + 1)))] [4, 5, 6, 7, 8, 9, 2, 10, 1, 0] rfl ?_
                  exact Hagain45 _ _ _ _ h ok62 ok63
                clear h
                refine z_icmp_ge C d_n_text_170 ok54 (okI_lit rfl) (fun hb55 => ?_) (fun hb55 => ?_)
                · refine z_bipush C d_n_text_181 (by decide) ?_
                  refine z_iload C 1 d_n_text_183 rfl ?_
                  refine z_iadd C d_n_text_185 ?_
                  refine z_bipush C d_n_text_186 (by decide) ?_
                  refine z_isub C d_n_text_188 ?_
                  exact hj _ (if_pos hb55).symm
                · refine z_bipush C d_n_text_173 (by decide) ?_
                  refine z_iload C 1 d_n_text_175 rfl ?_
                  refine z_iadd C d_n_text_177 ?_
                  refine z_goto C d_n_text_178 ?_
                  exact hj _ (if_neg (Int.not_le.mpr hb55)).symm
              · intro J49 HJ49 h
                refine z_if_gt C d_n_text_142 ok48 (fun hb64 => ?_) (fun hb64 => ?_)
                · have h := h.1 hb64
                  refine z_sub [(0, .ref (zA G t)), (1, .ref (zA G 44)), (2, .int (iI at_)), (3, .int (iI base)), (4, .int (iI v4_8)), (5, .int (iI v5_9)), (6, .int (iI v6_39)), (7, .int (iI v7_1)), (8, .long (lL v8_40)), (10, .int (iI v10_41))] [0, 1, 2, 3, 4, 5, 6, 7, 8, 9] rfl ?_
                  exact HJ49 h
                · have h := h.2 hb64
                  refine z_lload C 8 d_n_text_145 rfl ?_
                  refine z_lconst C d_n_text_147 ?_
                  obtain ⟨ok65, h⟩ := h
                  refine z_lcmp_le C d_n_text_148 d_n_text_149 ok65 (okL_lit rfl) (fun hb66 => ?_) (fun hb66 => ?_)
                  · have h := h.1 hb66
                    refine z_sub [(0, .ref (zA G t)), (1, .ref (zA G 44)), (2, .int (iI at_)), (3, .int (iI base)), (4, .int (iI v4_8)), (5, .int (iI v5_9)), (6, .int (iI v6_39)), (7, .int (iI v7_1))] [0, 1, 2, 3, 4, 5, 6, 7] rfl ?_
                    exact HJ46 h
                  · have h := h.2 hb66
                    refine z_sub [(0, .ref (zA G t)), (1, .ref (zA G 44)), (2, .int (iI at_)), (3, .int (iI base)), (4, .int (iI v4_8)), (5, .int (iI v5_9)), (6, .int (iI v6_39)), (7, .int (iI v7_1)), (8, .long (lL v8_40)), (10, .int (iI v10_41))] [0, 1, 2, 3, 4, 5, 6, 7, 8, 9] rfl ?_
                    exact HJ49 h
        · have h := h.2 hb35
          refine z_lload C 8 d_n_text_75 rfl ?_
          refine z_bipush C d_n_text_77 (by decide) ?_
          refine z_lshlK C 16777216 d_n_text_79 (by decide) ⟨by decide, by decide⟩ ?_
          refine z_aload_n C 0 d_n_text_80 rfl ?_
          refine z_nget_d C d_n_text_81 k_30 h_t ?_
          refine z_iload C 9 d_n_text_84 rfl ?_
          obtain ⟨hc67, h⟩ := h
          refine z_ialdN C (600) d_n_text_86 (isN.A h_t) (ln_num h_t) hc67 ?_
          obtain ⟨ok68, h⟩ := h
          refine z_i2l C d_n_text_87 ok68 ?_
          refine z_lor C d_n_text_88 ?_
          refine z_namel (fun v11_69 e70 => ?_)
          have h := h v11_69 e70
          have ok71 : okL v11_69 := by rw [e70]; exact (okL_or _ _)
          refine z_lstore C [(11, .long (lL v11_69)), (0, .ref (zA G t)), (1, .ref (zA G 44)), (2, .int (iI at_)), (3, .int (iI base)), (4, .int (iI v4_8)), (5, .int (iI v5_9)), (6, .int (iI v6_16)), (7, .int (iI v7_1)), (8, .long (lL v8_29)), (10, .int (iI v10_30))] d_n_text_89 (by decide) rfl ?_
          refine z_aload_n C 1 d_n_text_91 rfl ?_
          refine z_nget_d C d_n_text_92 k_30 h_t ?_
          refine z_iload C 10 d_n_text_95 rfl ?_
          refine z_lload C 0 d_n_text_97 rfl ?_
          refine z_iload C 6 d_n_text_99 rfl ?_
          refine z_i2l C d_n_text_101 ok11 ?_
          obtain ⟨hc72, h⟩ := h
          obtain ⟨hc73, h⟩ := h
          refine z_ldiv C d_n_text_102 hc72 hc73 ?_
          refine z_l2i C d_n_text_103 ?_
          refine z_iastN C (600) d_n_text_104 (isN.A h_t) (ln_num h_t) hc67 ?_
          refine z_lload C 0 d_n_text_105 rfl ?_
          refine z_iload C 6 d_n_text_107 rfl ?_
          refine z_i2l C d_n_text_109 ok11 ?_
          refine z_lrem C d_n_text_110 hc72 hc73 ?_
          refine z_namel (fun v8_74 e75 => ?_)
          have h := h v8_74 e75
          refine z_lstore C [(8, .long (lL v8_74)), (11, .long (lL v11_69)), (0, .ref (zA G t)), (1, .ref (zA G 44)), (2, .int (iI at_)), (3, .int (iI base)), (4, .int (iI v4_8)), (5, .int (iI v5_9)), (6, .int (iI v6_16)), (7, .int (iI v7_1)), (10, .int (iI v10_30))] d_n_text_111 (by decide) rfl ?_
          refine z_iinc C 10 [(10, .int (iI (v10_30 + (-1)))), (8, .long (lL v8_74)), (11, .long (lL v11_69)), (0, .ref (zA G t)), (1, .ref (zA G 44)), (2, .int (iI at_)), (3, .int (iI base)), (4, .int (iI v4_8)), (5, .int (iI v5_9)), (6, .int (iI v6_16)), (7, .int (iI v7_1))] d_n_text_113 rfl (by decide) rfl ?_
          refine z_goto C d_n_text_116 ?_
          obtain ⟨ok76, h⟩ := h
          refine z_sub [(0, .ref (zA G t)), (1, .ref (zA G 44)), (2, .int (iI at_)), (3, .int (iI base)), (4, .int (iI v4_8)), (5, .int (iI v5_9)), (6, .int (iI v6_16)), (7, .int (iI v7_1)), (8, .long (lL v8_74)), (10, .int (iI (v10_30 + (-1))))] [3, 4, 5, 6, 7, 8, 9, 10, 1, 0] rfl ?_
          exact Hagain34 _ _ _ h ok76
    · have h := h.2 hb15
      refine z_iload C 5 d_n_text_40 rfl ?_
      refine z_iload_n C 3 d_n_text_42 rfl ?_
      refine z_imul C d_n_text_43 ?_
      refine z_namei (fun v5_77 e78 => ?_)
      have h := h v5_77 e78
      refine z_istore C [(5, .int (iI v5_77)), (0, .ref (zA G t)), (1, .ref (zA G 44)), (2, .int (iI at_)), (3, .int (iI base)), (4, .int (iI v4_8)), (6, .int (iI v6_4)), (7, .int (iI v7_1))] d_n_text_44 (by decide) rfl ?_
      refine z_iinc C 5 [(4, .int (iI (v4_8 + 1))), (5, .int (iI v5_77)), (0, .ref (zA G t)), (1, .ref (zA G 44)), (2, .int (iI at_)), (3, .int (iI base)), (6, .int (iI v6_4)), (7, .int (iI v7_1))] d_n_text_46 rfl (by decide) rfl ?_
      refine z_goto C d_n_text_49 ?_
      obtain ⟨ok79, h⟩ := h
      obtain ⟨ok80, h⟩ := h
      refine z_sub [(0, .ref (zA G t)), (1, .ref (zA G 44)), (2, .int (iI at_)), (3, .int (iI base)), (4, .int (iI (v4_8 + 1))), (5, .int (iI v5_77)), (6, .int (iI v6_4)), (7, .int (iI v7_1))] [2, 3, 4, 5, 0, 1, 6, 7] rfl ?_
      exact Hagain12 _ _ h ok79 ok80
  · intro J7 HJ7 h
    refine z_if_ne C d_n_text_19 ok3 (fun hb81 => ?_) (fun hb81 => ?_)
    · have h := h.1 hb81
      refine z_sub [(0, .ref (zA G t)), (1, .ref (zA G 44)), (2, .int (iI at_)), (3, .int (iI base)), (4, .int (iI 1)), (5, .int (iI base)), (6, .int (iI at_)), (7, .int (iI v7_1))] [4, 5, 6, 7, 3, 2, 1, 0] rfl ?_
      exact HJ7 _ _ h h_at_
    · have h := h.2 hb81
      refine z_aload_n C 5 d_n_text_22 rfl ?_
      refine z_iload C 1 d_n_text_23 rfl ?_
      refine z_iinc C 1 [(6, .int (iI (at_ + 1))), (7, .int (iI v7_1)), (5, .int (iI base)), (4, .int (iI 1)), (0, .ref (zA G t)), (1, .ref (zA G 44)), (2, .int (iI at_)), (3, .int (iI base))] d_n_text_25 rfl (by decide) rfl ?_
      refine z_bipush C d_n_text_28 (by decide) ?_
      obtain ⟨hc82, h⟩ := h
      refine z_bast C d_n_text_30 hc82 ⟨by decide, by decide⟩ ?_
      obtain ⟨ok83, h⟩ := h
      refine z_sub [(0, .ref (zA G t)), (1, .ref (zA G 44)), (2, .int (iI at_)), (3, .int (iI base)), (4, .int (iI 1)), (5, .int (iI base)), (6, .int (iI (at_ + 1))), (7, .int (iI v7_1))] [4, 5, 6, 7, 3, 2, 0, 1] rfl ?_
      exact HJ7 _ _ h ok83
