/-! Walks, printed by gen/gen.py. -/
theorem d_n_sum3_0 : DD b_n_sum3 0 (.aload_n 1) 1 1 := ⟨by decide +kernel, rfl⟩
theorem d_n_sum3_1 : DD b_n_sum3 1 (.getfield 17) 3 4 := ⟨by decide +kernel, rfl⟩
theorem d_n_sum3_4 : DD b_n_sum3 4 (.istore 4) 2 6 := ⟨by decide +kernel, rfl⟩
theorem d_n_sum3_6 : DD b_n_sum3 6 (.aload_n 2) 1 7 := ⟨by decide +kernel, rfl⟩
theorem d_n_sum3_7 : DD b_n_sum3 7 (.getfield 17) 3 10 := ⟨by decide +kernel, rfl⟩
theorem d_n_sum3_10 : DD b_n_sum3 10 (.iload_n 3) 1 11 := ⟨by decide +kernel, rfl⟩
theorem d_n_sum3_11 : DD b_n_sum3 11 .imul 1 12 := ⟨by decide +kernel, rfl⟩
theorem d_n_sum3_12 : DD b_n_sum3 12 (.istore 5) 2 14 := ⟨by decide +kernel, rfl⟩
theorem d_n_sum3_14 : DD b_n_sum3 14 (.aload_n 1) 1 15 := ⟨by decide +kernel, rfl⟩
theorem d_n_sum3_15 : DD b_n_sum3 15 (.getfield 13) 3 18 := ⟨by decide +kernel, rfl⟩
theorem d_n_sum3_18 : DD b_n_sum3 18 (.istore 6) 2 20 := ⟨by decide +kernel, rfl⟩
theorem d_n_sum3_20 : DD b_n_sum3 20 (.aload_n 2) 1 21 := ⟨by decide +kernel, rfl⟩
theorem d_n_sum3_21 : DD b_n_sum3 21 (.getfield 13) 3 24 := ⟨by decide +kernel, rfl⟩
theorem d_n_sum3_24 : DD b_n_sum3 24 (.istore 7) 2 26 := ⟨by decide +kernel, rfl⟩
theorem d_n_sum3_26 : DD b_n_sum3 26 (.iload 4) 2 28 := ⟨by decide +kernel, rfl⟩
theorem d_n_sum3_28 : DB b_n_sum3 28 (.ifCond .eq 15) 15 31 43 := ⟨by decide +kernel, rfl, rfl⟩
theorem d_n_sum3_31 : DD b_n_sum3 31 (.iload 5) 2 33 := ⟨by decide +kernel, rfl⟩
theorem d_n_sum3_33 : DB b_n_sum3 33 (.ifCond .eq 10) 10 36 43 := ⟨by decide +kernel, rfl, rfl⟩
theorem d_n_sum3_36 : DD b_n_sum3 36 (.iload 4) 2 38 := ⟨by decide +kernel, rfl⟩
theorem d_n_sum3_38 : DD b_n_sum3 38 (.iload 5) 2 40 := ⟨by decide +kernel, rfl⟩
theorem d_n_sum3_40 : DB b_n_sum3 40 (.if_icmp .ne 122) 122 43 162 := ⟨by decide +kernel, rfl, rfl⟩
theorem d_n_sum3_43 : DD b_n_sum3 43 (.iload 6) 2 45 := ⟨by decide +kernel, rfl⟩
theorem d_n_sum3_45 : DD b_n_sum3 45 (.iload 7) 2 47 := ⟨by decide +kernel, rfl⟩
theorem d_n_sum3_47 : DD b_n_sum3 47 (.invokestatic 47) 3 50 := ⟨by decide +kernel, rfl⟩
theorem d_n_sum3_50 : DD b_n_sum3 50 (.istore 8) 2 52 := ⟨by decide +kernel, rfl⟩
theorem d_n_sum3_52 : DD b_n_sum3 52 (.iconst 0) 1 53 := ⟨by decide +kernel, rfl⟩
theorem d_n_sum3_53 : DD b_n_sum3 53 (.istore 9) 2 55 := ⟨by decide +kernel, rfl⟩
theorem d_n_sum3_55 : DD b_n_sum3 55 (.iconst 0) 1 56 := ⟨by decide +kernel, rfl⟩
theorem d_n_sum3_56 : DD b_n_sum3 56 (.istore 10) 2 58 := ⟨by decide +kernel, rfl⟩
theorem d_n_sum3_58 : DD b_n_sum3 58 (.iload 10) 2 60 := ⟨by decide +kernel, rfl⟩
theorem d_n_sum3_60 : DD b_n_sum3 60 (.iload 8) 2 62 := ⟨by decide +kernel, rfl⟩
theorem d_n_sum3_62 : DB b_n_sum3 62 (.if_icmp .ge 70) 70 65 132 := ⟨by decide +kernel, rfl, rfl⟩
theorem d_n_sum3_65 : DD b_n_sum3 65 (.iload 10) 2 67 := ⟨by decide +kernel, rfl⟩
theorem d_n_sum3_67 : DD b_n_sum3 67 (.iload 6) 2 69 := ⟨by decide +kernel, rfl⟩
theorem d_n_sum3_69 : DB b_n_sum3 69 (.if_icmp .ge 13) 13 72 82 := ⟨by decide +kernel, rfl, rfl⟩
theorem d_n_sum3_72 : DD b_n_sum3 72 (.aload_n 1) 1 73 := ⟨by decide +kernel, rfl⟩
theorem d_n_sum3_73 : DD b_n_sum3 73 (.getfield 9) 3 76 := ⟨by decide +kernel, rfl⟩
theorem d_n_sum3_76 : DD b_n_sum3 76 (.iload 10) 2 78 := ⟨by decide +kernel, rfl⟩
theorem d_n_sum3_78 : DD b_n_sum3 78 .iaload 1 79 := ⟨by decide +kernel, rfl⟩
theorem d_n_sum3_79 : DB b_n_sum3 79 (.goto 4) 4 82 83 := ⟨by decide +kernel, rfl, rfl⟩
theorem d_n_sum3_82 : DD b_n_sum3 82 (.iconst 0) 1 83 := ⟨by decide +kernel, rfl⟩
theorem d_n_sum3_83 : DD b_n_sum3 83 (.iload 10) 2 85 := ⟨by decide +kernel, rfl⟩
theorem d_n_sum3_85 : DD b_n_sum3 85 (.iload 7) 2 87 := ⟨by decide +kernel, rfl⟩
theorem d_n_sum3_87 : DB b_n_sum3 87 (.if_icmp .ge 13) 13 90 100 := ⟨by decide +kernel, rfl, rfl⟩
theorem d_n_sum3_90 : DD b_n_sum3 90 (.aload_n 2) 1 91 := ⟨by decide +kernel, rfl⟩
theorem d_n_sum3_91 : DD b_n_sum3 91 (.getfield 9) 3 94 := ⟨by decide +kernel, rfl⟩
theorem d_n_sum3_94 : DD b_n_sum3 94 (.iload 10) 2 96 := ⟨by decide +kernel, rfl⟩
theorem d_n_sum3_96 : DD b_n_sum3 96 .iaload 1 97 := ⟨by decide +kernel, rfl⟩
theorem d_n_sum3_97 : DB b_n_sum3 97 (.goto 4) 4 100 101 := ⟨by decide +kernel, rfl, rfl⟩
theorem d_n_sum3_100 : DD b_n_sum3 100 (.iconst 0) 1 101 := ⟨by decide +kernel, rfl⟩
theorem d_n_sum3_101 : DD b_n_sum3 101 .iadd 1 102 := ⟨by decide +kernel, rfl⟩
theorem d_n_sum3_102 : DD b_n_sum3 102 (.iload 9) 2 104 := ⟨by decide +kernel, rfl⟩
theorem d_n_sum3_104 : DD b_n_sum3 104 .iadd 1 105 := ⟨by decide +kernel, rfl⟩
theorem d_n_sum3_105 : DD b_n_sum3 105 (.istore 11) 2 107 := ⟨by decide +kernel, rfl⟩
theorem d_n_sum3_107 : DD b_n_sum3 107 (.aload_n 0) 1 108 := ⟨by decide +kernel, rfl⟩
theorem d_n_sum3_108 : DD b_n_sum3 108 (.getfield 9) 3 111 := ⟨by decide +kernel, rfl⟩
theorem d_n_sum3_111 : DD b_n_sum3 111 (.iload 10) 2 113 := ⟨by decide +kernel, rfl⟩
theorem d_n_sum3_113 : DD b_n_sum3 113 (.iload 11) 2 115 := ⟨by decide +kernel, rfl⟩
theorem d_n_sum3_115 : DD b_n_sum3 115 (.ldc 50) 2 117 := ⟨by decide +kernel, rfl⟩
theorem d_n_sum3_117 : DD b_n_sum3 117 .iand 1 118 := ⟨by decide +kernel, rfl⟩
theorem d_n_sum3_118 : DD b_n_sum3 118 .iastore 1 119 := ⟨by decide +kernel, rfl⟩
theorem d_n_sum3_119 : DD b_n_sum3 119 (.iload 11) 2 121 := ⟨by decide +kernel, rfl⟩
theorem d_n_sum3_121 : DD b_n_sum3 121 (.bipush 24) 2 123 := ⟨by decide +kernel, rfl⟩
theorem d_n_sum3_123 : DD b_n_sum3 123 .ishr 1 124 := ⟨by decide +kernel, rfl⟩
theorem d_n_sum3_124 : DD b_n_sum3 124 (.istore 9) 2 126 := ⟨by decide +kernel, rfl⟩
theorem d_n_sum3_126 : DD b_n_sum3 126 (.iinc 10 1) 3 129 := ⟨by decide +kernel, rfl⟩
theorem d_n_sum3_129 : DB b_n_sum3 129 (.goto (-71)) (-71) 132 58 := ⟨by decide +kernel, rfl, rfl⟩
theorem d_n_sum3_132 : DD b_n_sum3 132 (.aload_n 0) 1 133 := ⟨by decide +kernel, rfl⟩
theorem d_n_sum3_133 : DD b_n_sum3 133 (.getfield 9) 3 136 := ⟨by decide +kernel, rfl⟩
theorem d_n_sum3_136 : DD b_n_sum3 136 (.iload 8) 2 138 := ⟨by decide +kernel, rfl⟩
theorem d_n_sum3_138 : DD b_n_sum3 138 (.iload 9) 2 140 := ⟨by decide +kernel, rfl⟩
theorem d_n_sum3_140 : DD b_n_sum3 140 .iastore 1 141 := ⟨by decide +kernel, rfl⟩
theorem d_n_sum3_141 : DD b_n_sum3 141 (.aload_n 0) 1 142 := ⟨by decide +kernel, rfl⟩
theorem d_n_sum3_142 : DD b_n_sum3 142 (.iload 8) 2 144 := ⟨by decide +kernel, rfl⟩
theorem d_n_sum3_144 : DD b_n_sum3 144 (.iconst 1) 1 145 := ⟨by decide +kernel, rfl⟩
theorem d_n_sum3_145 : DD b_n_sum3 145 .iadd 1 146 := ⟨by decide +kernel, rfl⟩
theorem d_n_sum3_146 : DD b_n_sum3 146 (.iload 4) 2 148 := ⟨by decide +kernel, rfl⟩
theorem d_n_sum3_148 : DB b_n_sum3 148 (.ifCond .ne 8) 8 151 156 := ⟨by decide +kernel, rfl, rfl⟩
theorem d_n_sum3_151 : DD b_n_sum3 151 (.iload 5) 2 153 := ⟨by decide +kernel, rfl⟩
theorem d_n_sum3_153 : DB b_n_sum3 153 (.goto 5) 5 156 158 := ⟨by decide +kernel, rfl, rfl⟩
theorem d_n_sum3_156 : DD b_n_sum3 156 (.iload 4) 2 158 := ⟨by decide +kernel, rfl⟩
theorem d_n_sum3_158 : DD b_n_sum3 158 (.invokevirtual 22) 3 161 := ⟨by decide +kernel, rfl⟩
theorem d_n_sum3_161 : DD b_n_sum3 161 .return_ 1 162 := ⟨by decide +kernel, rfl⟩
theorem d_n_sum3_162 : DD b_n_sum3 162 (.aload_n 1) 1 163 := ⟨by decide +kernel, rfl⟩
theorem d_n_sum3_163 : DD b_n_sum3 163 (.aload_n 2) 1 164 := ⟨by decide +kernel, rfl⟩
theorem d_n_sum3_164 : DD b_n_sum3 164 (.invokestatic 43) 3 167 := ⟨by decide +kernel, rfl⟩
theorem d_n_sum3_167 : DB b_n_sum3 167 (.ifCond .lt 7) 7 170 174 := ⟨by decide +kernel, rfl, rfl⟩
theorem d_n_sum3_170 : DD b_n_sum3 170 (.iconst 1) 1 171 := ⟨by decide +kernel, rfl⟩
theorem d_n_sum3_171 : DB b_n_sum3 171 (.goto 4) 4 174 175 := ⟨by decide +kernel, rfl, rfl⟩
theorem d_n_sum3_174 : DD b_n_sum3 174 (.iconst 0) 1 175 := ⟨by decide +kernel, rfl⟩
theorem d_n_sum3_175 : DD b_n_sum3 175 (.istore 8) 2 177 := ⟨by decide +kernel, rfl⟩
theorem d_n_sum3_177 : DD b_n_sum3 177 (.iload 8) 2 179 := ⟨by decide +kernel, rfl⟩
theorem d_n_sum3_179 : DB b_n_sum3 179 (.ifCond .eq 7) 7 182 186 := ⟨by decide +kernel, rfl, rfl⟩
theorem d_n_sum3_182 : DD b_n_sum3 182 (.aload_n 1) 1 183 := ⟨by decide +kernel, rfl⟩
theorem d_n_sum3_183 : DB b_n_sum3 183 (.goto 4) 4 186 187 := ⟨by decide +kernel, rfl, rfl⟩
theorem d_n_sum3_186 : DD b_n_sum3 186 (.aload_n 2) 1 187 := ⟨by decide +kernel, rfl⟩
theorem d_n_sum3_187 : DD b_n_sum3 187 (.astore 9) 2 189 := ⟨by decide +kernel, rfl⟩
theorem d_n_sum3_189 : DD b_n_sum3 189 (.iload 8) 2 191 := ⟨by decide +kernel, rfl⟩
theorem d_n_sum3_191 : DB b_n_sum3 191 (.ifCond .eq 7) 7 194 198 := ⟨by decide +kernel, rfl, rfl⟩
theorem d_n_sum3_194 : DD b_n_sum3 194 (.aload_n 2) 1 195 := ⟨by decide +kernel, rfl⟩
theorem d_n_sum3_195 : DB b_n_sum3 195 (.goto 4) 4 198 199 := ⟨by decide +kernel, rfl, rfl⟩
theorem d_n_sum3_198 : DD b_n_sum3 198 (.aload_n 1) 1 199 := ⟨by decide +kernel, rfl⟩
theorem d_n_sum3_199 : DD b_n_sum3 199 (.astore 10) 2 201 := ⟨by decide +kernel, rfl⟩
theorem d_n_sum3_201 : DD b_n_sum3 201 (.aload 9) 2 203 := ⟨by decide +kernel, rfl⟩
theorem d_n_sum3_203 : DD b_n_sum3 203 (.getfield 13) 3 206 := ⟨by decide +kernel, rfl⟩
theorem d_n_sum3_206 : DD b_n_sum3 206 (.istore 11) 2 208 := ⟨by decide +kernel, rfl⟩
theorem d_n_sum3_208 : DD b_n_sum3 208 (.aload 10) 2 210 := ⟨by decide +kernel, rfl⟩
theorem d_n_sum3_210 : DD b_n_sum3 210 (.getfield 13) 3 213 := ⟨by decide +kernel, rfl⟩
theorem d_n_sum3_213 : DD b_n_sum3 213 (.istore 12) 2 215 := ⟨by decide +kernel, rfl⟩
theorem d_n_sum3_215 : DD b_n_sum3 215 (.iconst 0) 1 216 := ⟨by decide +kernel, rfl⟩
theorem d_n_sum3_216 : DD b_n_sum3 216 (.istore 13) 2 218 := ⟨by decide +kernel, rfl⟩
theorem d_n_sum3_218 : DD b_n_sum3 218 (.iconst 0) 1 219 := ⟨by decide +kernel, rfl⟩
theorem d_n_sum3_219 : DD b_n_sum3 219 (.istore 14) 2 221 := ⟨by decide +kernel, rfl⟩
theorem d_n_sum3_221 : DD b_n_sum3 221 (.iload 14) 2 223 := ⟨by decide +kernel, rfl⟩
theorem d_n_sum3_223 : DD b_n_sum3 223 (.iload 11) 2 225 := ⟨by decide +kernel, rfl⟩
theorem d_n_sum3_225 : DB b_n_sum3 225 (.if_icmp .ge 66) 66 228 291 := ⟨by decide +kernel, rfl, rfl⟩
theorem d_n_sum3_228 : DD b_n_sum3 228 (.aload 9) 2 230 := ⟨by decide +kernel, rfl⟩
theorem d_n_sum3_230 : DD b_n_sum3 230 (.getfield 9) 3 233 := ⟨by decide +kernel, rfl⟩
theorem d_n_sum3_233 : DD b_n_sum3 233 (.iload 14) 2 235 := ⟨by decide +kernel, rfl⟩
theorem d_n_sum3_235 : DD b_n_sum3 235 .iaload 1 236 := ⟨by decide +kernel, rfl⟩
theorem d_n_sum3_236 : DD b_n_sum3 236 (.iload 14) 2 238 := ⟨by decide +kernel, rfl⟩
theorem d_n_sum3_238 : DD b_n_sum3 238 (.iload 12) 2 240 := ⟨by decide +kernel, rfl⟩
theorem d_n_sum3_240 : DB b_n_sum3 240 (.if_icmp .ge 14) 14 243 254 := ⟨by decide +kernel, rfl, rfl⟩
theorem d_n_sum3_243 : DD b_n_sum3 243 (.aload 10) 2 245 := ⟨by decide +kernel, rfl⟩
theorem d_n_sum3_245 : DD b_n_sum3 245 (.getfield 9) 3 248 := ⟨by decide +kernel, rfl⟩
theorem d_n_sum3_248 : DD b_n_sum3 248 (.iload 14) 2 250 := ⟨by decide +kernel, rfl⟩
theorem d_n_sum3_250 : DD b_n_sum3 250 .iaload 1 251 := ⟨by decide +kernel, rfl⟩
theorem d_n_sum3_251 : DB b_n_sum3 251 (.goto 4) 4 254 255 := ⟨by decide +kernel, rfl, rfl⟩
theorem d_n_sum3_254 : DD b_n_sum3 254 (.iconst 0) 1 255 := ⟨by decide +kernel, rfl⟩
theorem d_n_sum3_255 : DD b_n_sum3 255 .isub 1 256 := ⟨by decide +kernel, rfl⟩
theorem d_n_sum3_256 : DD b_n_sum3 256 (.iload 13) 2 258 := ⟨by decide +kernel, rfl⟩
theorem d_n_sum3_258 : DD b_n_sum3 258 .isub 1 259 := ⟨by decide +kernel, rfl⟩
theorem d_n_sum3_259 : DD b_n_sum3 259 (.istore 15) 2 261 := ⟨by decide +kernel, rfl⟩
theorem d_n_sum3_261 : DD b_n_sum3 261 (.iload 15) 2 263 := ⟨by decide +kernel, rfl⟩
theorem d_n_sum3_263 : DB b_n_sum3 263 (.ifCond .ge 7) 7 266 270 := ⟨by decide +kernel, rfl, rfl⟩
theorem d_n_sum3_266 : DD b_n_sum3 266 (.iconst 1) 1 267 := ⟨by decide +kernel, rfl⟩
theorem d_n_sum3_267 : DB b_n_sum3 267 (.goto 4) 4 270 271 := ⟨by decide +kernel, rfl, rfl⟩
theorem d_n_sum3_270 : DD b_n_sum3 270 (.iconst 0) 1 271 := ⟨by decide +kernel, rfl⟩
theorem d_n_sum3_271 : DD b_n_sum3 271 (.istore 13) 2 273 := ⟨by decide +kernel, rfl⟩
theorem d_n_sum3_273 : DD b_n_sum3 273 (.aload_n 0) 1 274 := ⟨by decide +kernel, rfl⟩
theorem d_n_sum3_274 : DD b_n_sum3 274 (.getfield 9) 3 277 := ⟨by decide +kernel, rfl⟩
theorem d_n_sum3_277 : DD b_n_sum3 277 (.iload 14) 2 279 := ⟨by decide +kernel, rfl⟩
theorem d_n_sum3_279 : DD b_n_sum3 279 (.iload 15) 2 281 := ⟨by decide +kernel, rfl⟩
theorem d_n_sum3_281 : DD b_n_sum3 281 (.ldc 50) 2 283 := ⟨by decide +kernel, rfl⟩
theorem d_n_sum3_283 : DD b_n_sum3 283 .iand 1 284 := ⟨by decide +kernel, rfl⟩
theorem d_n_sum3_284 : DD b_n_sum3 284 .iastore 1 285 := ⟨by decide +kernel, rfl⟩
theorem d_n_sum3_285 : DD b_n_sum3 285 (.iinc 14 1) 3 288 := ⟨by decide +kernel, rfl⟩
theorem d_n_sum3_288 : DB b_n_sum3 288 (.goto (-67)) (-67) 291 221 := ⟨by decide +kernel, rfl, rfl⟩
theorem d_n_sum3_291 : DD b_n_sum3 291 (.aload_n 0) 1 292 := ⟨by decide +kernel, rfl⟩
theorem d_n_sum3_292 : DD b_n_sum3 292 (.iload 11) 2 294 := ⟨by decide +kernel, rfl⟩
theorem d_n_sum3_294 : DD b_n_sum3 294 (.iload 8) 2 296 := ⟨by decide +kernel, rfl⟩
theorem d_n_sum3_296 : DB b_n_sum3 296 (.ifCond .eq 8) 8 299 304 := ⟨by decide +kernel, rfl, rfl⟩
theorem d_n_sum3_299 : DD b_n_sum3 299 (.iload 4) 2 301 := ⟨by decide +kernel, rfl⟩
theorem d_n_sum3_301 : DB b_n_sum3 301 (.goto 5) 5 304 306 := ⟨by decide +kernel, rfl, rfl⟩
theorem d_n_sum3_304 : DD b_n_sum3 304 (.iload 5) 2 306 := ⟨by decide +kernel, rfl⟩
theorem d_n_sum3_306 : DD b_n_sum3 306 (.invokevirtual 22) 3 309 := ⟨by decide +kernel, rfl⟩
theorem d_n_sum3_309 : DD b_n_sum3 309 .return_ 1 310 := ⟨by decide +kernel, rfl⟩
set_option maxRecDepth 20000 in
set_option maxHeartbeats 4000000 in
theorem c_n_sum3 (l : Launch) (G : ZG) {t a b by_ : Int} {σ : Mem} {K : Mem → Prop} (h : wp_n_sum3 t a b by_ σ K) (h_t : isN t) (h_a : isN a) (h_b : isN b) (h_by_ : okI by_) : Ct l G y_n_sum3 (.code y_n_sum3 b_n_sum3 16 none) { frames := 1, cells := 0, slots := 0, locals := 22 } 0 0 0 [.ref (zA G t), .ref (zA G a), .ref (zA G b), .int (iI by_)] σ (fun _ σ1 => K σ1) (fun _ _ => False) := by
  unfold wp_n_sum3 at h
  refine Ct.ofZ [(0, .ref (zA G t)), (1, .ref (zA G a)), (2, .ref (zA G b)), (3, .int (iI by_))] "LimbDesk$Num" (by decide) rfl (Nat.le_of_ble_eq_true rfl) rfl ?_
  intro E hR hlE C hr hX
  subst hlE
  have hroom_math : 1 ≤ (zR E).frames ∧ 8 + 13 ≤ (zR E).locals ∧ 0 ≤ (zR E).cells ∧ 0 ≤ (zR E).slots := by rw [hR]; decide
  have hroom_n_limbs : 0 + 1 ≤ (zR E).frames ∧ 8 + (3 + 11) + 0 ≤ (zR E).locals ∧ 0 + 0 ≤ (zR E).cells ∧ 0 + 0 ≤ (zR E).slots := by rw [hR]; decide
  have hroom_n_trim : 0 + 1 ≤ (zR E).frames ∧ 8 + (3 + 11) + 0 ≤ (zR E).locals ∧ 0 + 0 ≤ (zR E).cells ∧ 0 + 0 ≤ (zR E).slots := by rw [hR]; decide
  clear hR
  obtain ⟨Q, hQ⟩ : ∃ Q, Q = MQX G (zb E) 0 (fun _ σ1 => K σ1) (fun _ _ => False) (zs E) 0 0 0 0 := ⟨_, rfl⟩
  show Z E G 16 0 0 (MQX G (zb E) 0 (fun _ σ1 => K σ1) (fun _ _ => False) (zs E) 0 0 0 0) σ 0 [(0, .ref (zA G t)), (1, .ref (zA G a)), (2, .ref (zA G b)), (3, .int (iI by_))] []
  rw [← hQ]
  refine z_aload_n C 1 d_n_sum3_0 rfl ?_
  refine z_nget_sign C d_n_sum3_1 k_33 h_a ?_
  refine z_namei (fun v4_1 e2 => ?_)
  have h := h v4_1 e2
  refine z_istore C [(4, .int (iI v4_1)), (0, .ref (zA G t)), (1, .ref (zA G a)), (2, .ref (zA G b)), (3, .int (iI by_))] d_n_sum3_4 (by decide) rfl ?_
  refine z_aload_n C 3 d_n_sum3_6 rfl ?_
  refine z_nget_sign C d_n_sum3_7 k_33 h_b ?_
  refine z_iload_n C 4 d_n_sum3_10 rfl ?_
  refine z_imul C d_n_sum3_11 ?_
  refine z_namei (fun v5_3 e4 => ?_)
  have h := h v5_3 e4
  refine z_istore C [(5, .int (iI v5_3)), (4, .int (iI v4_1)), (0, .ref (zA G t)), (1, .ref (zA G a)), (2, .ref (zA G b)), (3, .int (iI by_))] d_n_sum3_12 (by decide) rfl ?_
  refine z_aload_n C 3 d_n_sum3_14 rfl ?_
  refine z_nget_n C d_n_sum3_15 k_32 h_a ?_
  refine z_namei (fun v6_5 e6 => ?_)
  have h := h v6_5 e6
  refine z_istore C [(6, .int (iI v6_5)), (5, .int (iI v5_3)), (4, .int (iI v4_1)), (0, .ref (zA G t)), (1, .ref (zA G a)), (2, .ref (zA G b)), (3, .int (iI by_))] d_n_sum3_18 (by decide) rfl ?_
  refine z_aload_n C 5 d_n_sum3_20 rfl ?_
  refine z_nget_n C d_n_sum3_21 k_32 h_b ?_
  refine z_namei (fun v7_7 e8 => ?_)
  have h := h v7_7 e8
  refine z_istore C [(7, .int (iI v7_7)), (6, .int (iI v6_5)), (5, .int (iI v5_3)), (4, .int (iI v4_1)), (0, .ref (zA G t)), (1, .ref (zA G a)), (2, .ref (zA G b)), (3, .int (iI by_))] d_n_sum3_24 (by decide) rfl ?_
  refine z_iload C 3 d_n_sum3_26 rfl ?_
  obtain ⟨ok9, h⟩ := h
  refine Jq0.walk (Z E G 16 0 0 Q σ 43 [(0, .ref (zA G t)), (1, .ref (zA G a)), (2, .ref (zA G b)), (4, .int (iI v4_1)), (5, .int (iI v5_3)), (6, .int (iI v6_5)), (7, .int (iI v7_7))] []) h ?_ ?_
  · intro h
    refine z_iload C 5 d_n_sum3_43 rfl ?_
    refine z_iload C 6 d_n_sum3_45 rfl ?_
    obtain ⟨ok11, h⟩ := h
    obtain ⟨ok12, h⟩ := h
    refine z_max C d_n_sum3_47 k_303 k_304 k_13 k_305 ok11 ok12 (Nat.le_of_ble_eq_true rfl) hroom_math ?_
    refine z_namei (fun v8_13 e14 => ?_)
    have h := h v8_13 e14
    have ok15 : okI v8_13 := by rw [e14]; exact (okI_max ok11 ok12)
    refine z_istore C [(8, .int (iI v8_13)), (0, .ref (zA G t)), (1, .ref (zA G a)), (2, .ref (zA G b)), (4, .int (iI v4_1)), (5, .int (iI v5_3)), (6, .int (iI v6_5)), (7, .int (iI v7_7))] d_n_sum3_50 (by decide) rfl ?_
    refine z_iconst C d_n_sum3_52 ?_
    refine z_istore C [(9, .int (iI 0)), (8, .int (iI v8_13)), (0, .ref (zA G t)), (1, .ref (zA G a)), (2, .ref (zA G b)), (4, .int (iI v4_1)), (5, .int (iI v5_3)), (6, .int (iI v6_5)), (7, .int (iI v7_7))] d_n_sum3_53 (by decide) rfl ?_
    refine z_iconst C d_n_sum3_55 ?_
    refine z_istore C [(10, .int (iI 0)), (9, .int (iI 0)), (8, .int (iI v8_13)), (0, .ref (zA G t)), (1, .ref (zA G a)), (2, .ref (zA G b)), (4, .int (iI v4_1)), (5, .int (iI v5_3)), (6, .int (iI v6_5)), (7, .int (iI v7_7))] d_n_sum3_56 (by decide) rfl ?_
    refine z_sub [(0, .ref (zA G t)), (1, .ref (zA G a)), (2, .ref (zA G b)), (4, .int (iI v4_1)), (5, .int (iI v5_3)), (6, .int (iI v6_5)), (7, .int (iI v7_7)), (8, .int (iI v8_13)), (9, .int (iI 0)), (10, .int (iI 0))] [3, 4, 5, 6, 7, 8, 9, 2, 1, 0] rfl ?_
    refine (Lo2.walk (P := fun v9_16 v10_17 σ18 => okI v9_16 → okI v10_17 → Z E G 16 0 0 Q σ18 58 [(0, .ref (zA G t)), (1, .ref (zA G a)), (2, .ref (zA G b)), (4, .int (iI v4_1)), (5, .int (iI v5_3)), (6, .int (iI v6_5)), (7, .int (iI v7_7)), (8, .int (iI v8_13)), (9, .int (iI v9_16)), (10, .int (iI v10_17))] []) ?_ h) (okI_lit rfl) (okI_lit rfl)
    intro v9_16 v10_17 σ18 again21 Hagain21 h ok19 ok20
    refine z_iload C 9 d_n_sum3_58 rfl ?_
    refine z_iload C 7 d_n_sum3_60 rfl ?_
    refine z_icmp_ge C d_n_sum3_62 ok20 ok15 (fun hb22 => ?_) (fun hb22 => ?_)
    · have h := h.1 hb22
      refine z_aload_n C 0 d_n_sum3_132 rfl ?_
      refine z_nget_d C d_n_sum3_133 k_30 h_t ?_
      refine z_iload C 7 d_n_sum3_136 rfl ?_
      refine z_iload C 8 d_n_sum3_138 rfl ?_
      obtain ⟨hc23, h⟩ := h
      refine z_iastN C (600) d_n_sum3_140 (isN.A h_t) (ln_num h_t) hc23 ?_
      refine z_aload_n C 0 d_n_sum3_141 rfl ?_
      refine z_iload C 7 d_n_sum3_142 rfl ?_
      refine z_iconst C d_n_sum3_144 ?_
      refine z_iadd C d_n_sum3_145 ?_
      refine z_iload C 3 d_n_sum3_146 rfl ?_
      have hj : ∀ s25 : Int, s25 = (if v4_1 ≠ 0 then v4_1 else v5_3) → Z E G 16 0 0 Q (mS σ18 (21 + t) v8_13 v9_16) 158 [(0, .ref (zA G t)), (1, .ref (zA G a)), (2, .ref (zA G b)), (4, .int (iI v4_1)), (5, .int (iI v5_3)), (6, .int (iI v6_5)), (7, .int (iI v7_7)), (8, .int (iI v8_13)), (9, .int (iI v9_16)), (10, .int (iI v10_17))] [.int (iI s25), .int (iI (v8_13 + 1)), .ref (zA G t)] := by
        intro s25 e26
        have h := h s25 e26
        obtain ⟨ok27, h⟩ := h
        obtain ⟨ok28, h⟩ := h
        refine z_callV C "LimbDesk$Num" [.int (iI (v8_13 + 1)), .int (iI s25)] [] 2 d_n_sum3_158 (c_n_trim (zl E) G h h_t ok27 ok28) k_168 k_165 k_167 k_s2 k_2 (by decide) (recv_N C h_t) (by decide +kernel) rfl rfl (Nat.le_of_ble_eq_true rfl) hroom_n_trim (fun _r σ29 ok30 hq => ?_) (fun _ _ hx => hx.elim)
        have h := hq
        subst hQ
        exact z_return C d_n_sum3_161.1 hr ⟨Nat.zero_le _, Nat.zero_le _⟩ h
      clear h
      refine z_if_ne C d_n_sum3_148 ok9 (fun hb24 => ?_) (fun hb24 => ?_)
      · refine z_iload C 3 d_n_sum3_156 rfl ?_
        exact hj _ (if_pos hb24).symm
      · refine z_iload C 4 d_n_sum3_151 rfl ?_
        refine z_goto C d_n_sum3_153 ?_
        exact hj _ (if_neg (not_not_intro hb24)).symm
    · have h := h.2 hb22
      refine z_iload C 9 d_n_sum3_65 rfl ?_
      refine z_iload C 5 d_n_sum3_67 rfl ?_
      obtain ⟨ha35, h⟩ := h
      have hj : ∀ s33 : Int, s33 = (if v6_5 ≤ v10_17 then 0 else (σ18 (21 + a) v10_17)) → Z E G 16 0 0 Q σ18 83 [(0, .ref (zA G t)), (1, .ref (zA G a)), (2, .ref (zA G b)), (4, .int (iI v4_1)), (5, .int (iI v5_3)), (6, .int (iI v6_5)), (7, .int (iI v7_7)), (8, .int (iI v8_13)), (9, .int (iI v9_16)), (10, .int (iI v10_17))] [.int (iI s33)] := by
        intro s33 e34
        have h := h s33 e34
        refine z_iload C 9 d_n_sum3_83 rfl ?_
        refine z_iload C 6 d_n_sum3_85 rfl ?_
        obtain ⟨ha40, h⟩ := h
        have hj : ∀ s38 : Int, s38 = (if v7_7 ≤ v10_17 then 0 else (σ18 (21 + b) v10_17)) → Z E G 16 0 0 Q σ18 101 [(0, .ref (zA G t)), (1, .ref (zA G a)), (2, .ref (zA G b)), (4, .int (iI v4_1)), (5, .int (iI v5_3)), (6, .int (iI v6_5)), (7, .int (iI v7_7)), (8, .int (iI v8_13)), (9, .int (iI v9_16)), (10, .int (iI v10_17))] [.int (iI s38), .int (iI s33)] := by
          intro s38 e39
          have h := h s38 e39
          refine z_iadd C d_n_sum3_101 ?_
          refine z_iload C 8 d_n_sum3_102 rfl ?_
          refine z_iadd C d_n_sum3_104 ?_
          refine z_namei (fun v11_41 e42 => ?_)
          have h := h v11_41 e42
          refine z_istore C [(11, .int (iI v11_41)), (0, .ref (zA G t)), (1, .ref (zA G a)), (2, .ref (zA G b)), (4, .int (iI v4_1)), (5, .int (iI v5_3)), (6, .int (iI v6_5)), (7, .int (iI v7_7)), (8, .int (iI v8_13)), (9, .int (iI v9_16)), (10, .int (iI v10_17))] d_n_sum3_105 (by decide) rfl ?_
          refine z_aload_n C 1 d_n_sum3_107 rfl ?_
          refine z_nget_d C d_n_sum3_108 k_30 h_t ?_
          refine z_iload C 10 d_n_sum3_111 rfl ?_
          refine z_iload C 0 d_n_sum3_113 rfl ?_
          refine z_ldc C d_n_sum3_115 k_261 (n := 16777215) (by decide) ?_
          refine z_imask C 24 16777216 d_n_sum3_117 (by decide) (by decide) (by decide) ?_
          obtain ⟨hc43, h⟩ := h
          refine z_iastN C (600) d_n_sum3_118 (isN.A h_t) (ln_num h_t) hc43 ?_
          refine z_iload C 0 d_n_sum3_119 rfl ?_
          refine z_bipush C d_n_sum3_121 (by decide) ?_
          obtain ⟨ok44, h⟩ := h
          refine z_ishrK C 16777216 d_n_sum3_123 (by decide) ok44 ⟨by decide, by decide⟩ ?_
          refine z_namei (fun v9_45 e46 => ?_)
          have h := h v9_45 e46
          refine z_istore C [(9, .int (iI v9_45)), (11, .int (iI v11_41)), (0, .ref (zA G t)), (1, .ref (zA G a)), (2, .ref (zA G b)), (4, .int (iI v4_1)), (5, .int (iI v5_3)), (6, .int (iI v6_5)), (7, .int (iI v7_7)), (8, .int (iI v8_13)), (10, .int (iI v10_17))] d_n_sum3_124 (by decide) rfl ?_
          refine z_iinc C 10 [(10, .int (iI (v10_17 + 1))), (9, .int (iI v9_45)), (11, .int (iI v11_41)), (0, .ref (zA G t)), (1, .ref (zA G a)), (2, .ref (zA G b)), (4, .int (iI v4_1)), (5, .int (iI v5_3)), (6, .int (iI v6_5)), (7, .int (iI v7_7)), (8, .int (iI v8_13))] d_n_sum3_126 rfl (by decide) rfl ?_
          refine z_goto C d_n_sum3_129 ?_
          obtain ⟨ok47, h⟩ := h
          obtain ⟨ok48, h⟩ := h
          refine z_sub [(0, .ref (zA G t)), (1, .ref (zA G a)), (2, .ref (zA G b)), (4, .int (iI v4_1)), (5, .int (iI v5_3)), (6, .int (iI v6_5)), (7, .int (iI v7_7)), (8, .int (iI v8_13)), (9, .int (iI v9_45)), (10, .int (iI (v10_17 + 1)))] [3, 4, 5, 6, 7, 8, 9, 10, 1, 0] rfl ?_
          exact Hagain21 _ _ _ h ok47 ok48
        clear h
        refine z_icmp_ge C d_n_sum3_87 ok20 ok12 (fun hb36 => ?_) (fun hb36 => ?_)
        · refine z_iconst C d_n_sum3_100 ?_
          exact hj _ (if_pos hb36).symm
        · have h := ha40 hb36
          refine z_aload_n C 2 d_n_sum3_90 rfl ?_
          refine z_nget_d C d_n_sum3_91 k_30 h_b ?_
          refine z_iload C 9 d_n_sum3_94 rfl ?_
          obtain ⟨hc37, h⟩ := h
          refine z_ialdN C (600) d_n_sum3_96 (isN.A h_b) (ln_num h_b) hc37 ?_
          refine z_goto C d_n_sum3_97 ?_
          exact hj _ (if_neg (Int.not_le.mpr hb36)).symm
      clear h
      refine z_icmp_ge C d_n_sum3_69 ok20 ok11 (fun hb31 => ?_) (fun hb31 => ?_)
      · refine z_iconst C d_n_sum3_82 ?_
        exact hj _ (if_pos hb31).symm
      · have h := ha35 hb31
        refine z_aload_n C 1 d_n_sum3_72 rfl ?_
        refine z_nget_d C d_n_sum3_73 k_30 h_a ?_
        refine z_iload C 9 d_n_sum3_76 rfl ?_
        obtain ⟨hc32, h⟩ := h
        refine z_ialdN C (600) d_n_sum3_78 (isN.A h_a) (ln_num h_a) hc32 ?_
        refine z_goto C d_n_sum3_79 ?_
        exact hj _ (if_neg (Int.not_le.mpr hb31)).symm
  · intro J10 HJ10 h
    refine z_if_eq C d_n_sum3_28 ok9 (fun hb49 => ?_) (fun hb49 => ?_)
    · have h := h.1 hb49
      refine z_sub [(0, .ref (zA G t)), (1, .ref (zA G a)), (2, .ref (zA G b)), (4, .int (iI v4_1)), (5, .int (iI v5_3)), (6, .int (iI v6_5)), (7, .int (iI v7_7))] [4, 5, 6, 3, 2, 1, 0] rfl ?_
      exact HJ10 h
    · have h := h.2 hb49
      refine z_iload C 2 d_n_sum3_31 rfl ?_
      obtain ⟨ok50, h⟩ := h
      refine z_if_eq C d_n_sum3_33 ok50 (fun hb51 => ?_) (fun hb51 => ?_)
      · have h := h.1 hb51
        refine z_sub [(0, .ref (zA G t)), (1, .ref (zA G a)), (2, .ref (zA G b)), (4, .int (iI v4_1)), (5, .int (iI v5_3)), (6, .int (iI v6_5)), (7, .int (iI v7_7))] [4, 5, 6, 3, 2, 1, 0] rfl ?_
        exact HJ10 h
      · have h := h.2 hb51
        refine z_iload C 3 d_n_sum3_36 rfl ?_
        refine z_iload C 2 d_n_sum3_38 rfl ?_
        refine z_icmp_ne C d_n_sum3_40 ok9 ok50 (fun hb52 => ?_) (fun hb52 => ?_)
        · have h := h.1 hb52
          refine z_aload_n C 5 d_n_sum3_162 rfl ?_
          refine z_aload_n C 6 d_n_sum3_163 rfl ?_
          refine z_callS C [.ref (zA G a), .ref (zA G b)] [] 2 d_n_sum3_164 (c_n_limbs (zl E) G h h_a h_b) k_308 k_306 k_307 k_2 (by decide)  (by decide +kernel) rfl rfl (Nat.le_of_ble_eq_true rfl) hroom_n_limbs (fun r53 _s98 ok54 hq => ?_) (fun _ _ hx => hx.elim)
          obtain ⟨hs_, hk_⟩ := hq
          subst hs_
          have h := hk_
          have hj : ∀ s56 : Int, s56 = (if r53 < 0 then 0 else 1) → Z E G 16 0 0 Q σ 175 [(7, .int (iI v7_7)), (6, .int (iI v6_5)), (5, .int (iI v5_3)), (4, .int (iI v4_1)), (0, .ref (zA G t)), (1, .ref (zA G a)), (2, .ref (zA G b)), (3, .int (iI by_))] [.int (iI s56)] := by
            intro s56 e57
            have h := h s56 e57
            have ok58 : okI s56 := by rw [e57]; split; exact (okI_lit rfl); exact (okI_lit rfl)
            refine z_istore C [(8, .int (iI s56)), (7, .int (iI v7_7)), (6, .int (iI v6_5)), (5, .int (iI v5_3)), (4, .int (iI v4_1)), (0, .ref (zA G t)), (1, .ref (zA G a)), (2, .ref (zA G b)), (3, .int (iI by_))] d_n_sum3_175 (by decide) rfl ?_
            refine z_iload C 0 d_n_sum3_177 rfl ?_
            refine Jq1.walk (fun s59 => isN s59 → Z E G 16 0 0 Q σ 187 [(0, .ref (zA G t)), (1, .ref (zA G a)), (2, .ref (zA G b)), (4, .int (iI v4_1)), (5, .int (iI v5_3)), (8, .int (iI s56))] [.ref (zA G s59)]) h ?_ ?_
            · intro s59 h ok60
              refine z_astore C [(9, .ref (zA G s59)), (0, .ref (zA G t)), (1, .ref (zA G a)), (2, .ref (zA G b)), (4, .int (iI v4_1)), (5, .int (iI v5_3)), (8, .int (iI s56))] d_n_sum3_187 (by decide) rfl ?_
              refine z_iload C 6 d_n_sum3_189 rfl ?_
              refine Jq1.walk (fun s62 => isN s62 → Z E G 16 0 0 Q σ 199 [(0, .ref (zA G t)), (4, .int (iI v4_1)), (5, .int (iI v5_3)), (8, .int (iI s56)), (9, .ref (zA G s59))] [.ref (zA G s62)]) h ?_ ?_
              · intro s62 h ok63
                refine z_astore C [(10, .ref (zA G s62)), (0, .ref (zA G t)), (4, .int (iI v4_1)), (5, .int (iI v5_3)), (8, .int (iI s56)), (9, .ref (zA G s59))] d_n_sum3_199 (by decide) rfl ?_
                refine z_aload C 5 d_n_sum3_201 rfl ?_
                refine z_nget_n C d_n_sum3_203 k_32 ok60 ?_
                refine z_namei (fun v11_65 e66 => ?_)
                have h := h v11_65 e66
                refine z_istore C [(11, .int (iI v11_65)), (10, .ref (zA G s62)), (0, .ref (zA G t)), (4, .int (iI v4_1)), (5, .int (iI v5_3)), (8, .int (iI s56)), (9, .ref (zA G s59))] d_n_sum3_206 (by decide) rfl ?_
                refine z_aload C 1 d_n_sum3_208 rfl ?_
                refine z_nget_n C d_n_sum3_210 k_32 ok63 ?_
                refine z_namei (fun v12_67 e68 => ?_)
                have h := h v12_67 e68
                refine z_istore C [(12, .int (iI v12_67)), (11, .int (iI v11_65)), (10, .ref (zA G s62)), (0, .ref (zA G t)), (4, .int (iI v4_1)), (5, .int (iI v5_3)), (8, .int (iI s56)), (9, .ref (zA G s59))] d_n_sum3_213 (by decide) rfl ?_
                refine z_iconst C d_n_sum3_215 ?_
                refine z_istore C [(13, .int (iI 0)), (12, .int (iI v12_67)), (11, .int (iI v11_65)), (10, .ref (zA G s62)), (0, .ref (zA G t)), (4, .int (iI v4_1)), (5, .int (iI v5_3)), (8, .int (iI s56)), (9, .ref (zA G s59))] d_n_sum3_216 (by decide) rfl ?_
                refine z_iconst C d_n_sum3_218 ?_
                refine z_istore C [(14, .int (iI 0)), (13, .int (iI 0)), (12, .int (iI v12_67)), (11, .int (iI v11_65)), (10, .ref (zA G s62)), (0, .ref (zA G t)), (4, .int (iI v4_1)), (5, .int (iI v5_3)), (8, .int (iI s56)), (9, .ref (zA G s59))] d_n_sum3_219 (by decide) rfl ?_
                refine z_sub [(0, .ref (zA G t)), (4, .int (iI v4_1)), (5, .int (iI v5_3)), (8, .int (iI s56)), (9, .ref (zA G s59)), (10, .ref (zA G s62)), (11, .int (iI v11_65)), (12, .int (iI v12_67)), (13, .int (iI 0)), (14, .int (iI 0))] [5, 6, 7, 8, 9, 4, 3, 2, 1, 0] rfl ?_
                refine (Lo2.walk (P := fun v13_69 v14_70 σ71 => okI v13_69 → okI v14_70 → Z E G 16 0 0 Q σ71 221 [(0, .ref (zA G t)), (4, .int (iI v4_1)), (5, .int (iI v5_3)), (8, .int (iI s56)), (9, .ref (zA G s59)), (10, .ref (zA G s62)), (11, .int (iI v11_65)), (12, .int (iI v12_67)), (13, .int (iI v13_69)), (14, .int (iI v14_70))] []) ?_ h) (okI_lit rfl) (okI_lit rfl)
                intro v13_69 v14_70 σ71 again74 Hagain74 h ok72 ok73
                refine z_iload C 9 d_n_sum3_221 rfl ?_
                refine z_iload C 6 d_n_sum3_223 rfl ?_
                obtain ⟨ok75, h⟩ := h
                refine z_icmp_ge C d_n_sum3_225 ok73 ok75 (fun hb76 => ?_) (fun hb76 => ?_)
                · have h := h.1 hb76
                  refine z_aload_n C 0 d_n_sum3_291 rfl ?_
                  refine z_iload C 6 d_n_sum3_292 rfl ?_
                  refine z_iload C 3 d_n_sum3_294 rfl ?_
                  have hj : ∀ s78 : Int, s78 = (if s56 = 0 then v5_3 else v4_1) → Z E G 16 0 0 Q σ71 306 [(0, .ref (zA G t)), (4, .int (iI v4_1)), (5, .int (iI v5_3)), (8, .int (iI s56)), (9, .ref (zA G s59)), (10, .ref (zA G s62)), (11, .int (iI v11_65)), (12, .int (iI v12_67)), (13, .int (iI v13_69)), (14, .int (iI v14_70))] [.int (iI s78), .int (iI v11_65), .ref (zA G t)] := by
                    intro s78 e79
                    have h := h s78 e79
                    have ok80 : okI s78 := by rw [e79]; split; exact ok50; exact ok9
                    refine z_callV C "LimbDesk$Num" [.int (iI v11_65), .int (iI s78)] [] 2 d_n_sum3_306 (c_n_trim (zl E) G h h_t ok75 ok80) k_168 k_165 k_167 k_s2 k_2 (by decide) (recv_N C h_t) (by decide +kernel) rfl rfl (Nat.le_of_ble_eq_true rfl) hroom_n_trim (fun _r σ81 ok82 hq => ?_) (fun _ _ hx => hx.elim)
                    have h := hq
                    subst hQ
                    exact z_return C d_n_sum3_309.1 hr ⟨Nat.zero_le _, Nat.zero_le _⟩ h
                  clear h
                  refine z_if_eq C d_n_sum3_296 ok58 (fun hb77 => ?_) (fun hb77 => ?_)
                  · refine z_iload C 2 d_n_sum3_304 rfl ?_
                    exact hj _ (if_pos hb77).symm
                  · refine z_iload C 1 d_n_sum3_299 rfl ?_
                    refine z_goto C d_n_sum3_301 ?_
                    exact hj _ (if_neg hb77).symm
                · have h := h.2 hb76
                  refine z_aload C 4 d_n_sum3_228 rfl ?_
                  refine z_nget_d C d_n_sum3_230 k_30 ok60 ?_
                  refine z_iload C 9 d_n_sum3_233 rfl ?_
                  obtain ⟨hc83, h⟩ := h
                  refine z_ialdN C (600) d_n_sum3_235 (isN.A ok60) (ln_num ok60) hc83 ?_
                  refine z_iload C 9 d_n_sum3_236 rfl ?_
                  refine z_iload C 7 d_n_sum3_238 rfl ?_
                  obtain ⟨ok84, h⟩ := h
                  have hj : ∀ s86 : Int, s86 = (if v12_67 ≤ v14_70 then 0 else (σ71 (21 + s62) v14_70)) → Z E G 16 0 0 Q σ71 255 [(0, .ref (zA G t)), (4, .int (iI v4_1)), (5, .int (iI v5_3)), (8, .int (iI s56)), (9, .ref (zA G s59)), (10, .ref (zA G s62)), (11, .int (iI v11_65)), (12, .int (iI v12_67)), (13, .int (iI v13_69)), (14, .int (iI v14_70))] [.int (iI s86), .int (iI (σ71 (21 + s59) v14_70))] := by
                    intro s86 e87
                    have h := h s86 e87
                    refine z_isub C d_n_sum3_255 ?_
                    refine z_iload C 8 d_n_sum3_256 rfl ?_
                    refine z_isub C d_n_sum3_258 ?_
                    refine z_namei (fun v15_88 e89 => ?_)
                    have h := h v15_88 e89
                    refine z_istore C [(15, .int (iI v15_88)), (0, .ref (zA G t)), (4, .int (iI v4_1)), (5, .int (iI v5_3)), (8, .int (iI s56)), (9, .ref (zA G s59)), (10, .ref (zA G s62)), (11, .int (iI v11_65)), (12, .int (iI v12_67)), (13, .int (iI v13_69)), (14, .int (iI v14_70))] d_n_sum3_259 (by decide) rfl ?_
                    refine z_iload C 0 d_n_sum3_261 rfl ?_
                    obtain ⟨ok90, h⟩ := h
                    have hj : ∀ s92 : Int, s92 = (if 0 ≤ v15_88 then 0 else 1) → Z E G 16 0 0 Q σ71 271 [(15, .int (iI v15_88)), (0, .ref (zA G t)), (4, .int (iI v4_1)), (5, .int (iI v5_3)), (8, .int (iI s56)), (9, .ref (zA G s59)), (10, .ref (zA G s62)), (11, .int (iI v11_65)), (12, .int (iI v12_67)), (13, .int (iI v13_69)), (14, .int (iI v14_70))] [.int (iI s92)] := by
                      intro s92 e93
                      have h := h s92 e93
                      have ok94 : okI s92 := by rw [e93]; split; exact (okI_lit rfl); exact (okI_lit rfl)
                      refine z_istore C [(13, .int (iI s92)), (15, .int (iI v15_88)), (0, .ref (zA G t)), (4, .int (iI v4_1)), (5, .int (iI v5_3)), (8, .int (iI s56)), (9, .ref (zA G s59)), (10, .ref (zA G s62)), (11, .int (iI v11_65)), (12, .int (iI v12_67)), (14, .int (iI v14_70))] d_n_sum3_271 (by decide) rfl ?_
                      refine z_aload_n C 2 d_n_sum3_273 rfl ?_
                      refine z_nget_d C d_n_sum3_274 k_30 h_t ?_
                      refine z_iload C 10 d_n_sum3_277 rfl ?_
                      refine z_iload C 1 d_n_sum3_279 rfl ?_
                      refine z_ldc C d_n_sum3_281 k_261 (n := 16777215) (by decide) ?_
                      refine z_imask C 24 16777216 d_n_sum3_283 (by decide) (by decide) (by decide) ?_
                      refine z_iastN C (600) d_n_sum3_284 (isN.A h_t) (ln_num h_t) hc83 ?_
                      refine z_iinc C 10 [(14, .int (iI (v14_70 + 1))), (13, .int (iI s92)), (15, .int (iI v15_88)), (0, .ref (zA G t)), (4, .int (iI v4_1)), (5, .int (iI v5_3)), (8, .int (iI s56)), (9, .ref (zA G s59)), (10, .ref (zA G s62)), (11, .int (iI v11_65)), (12, .int (iI v12_67))] d_n_sum3_285 rfl (by decide) rfl ?_
                      refine z_goto C d_n_sum3_288 ?_
                      obtain ⟨ok95, h⟩ := h
                      refine z_sub [(0, .ref (zA G t)), (4, .int (iI v4_1)), (5, .int (iI v5_3)), (8, .int (iI s56)), (9, .ref (zA G s59)), (10, .ref (zA G s62)), (11, .int (iI v11_65)), (12, .int (iI v12_67)), (13, .int (iI s92)), (14, .int (iI (v14_70 + 1)))] [3, 4, 5, 6, 7, 8, 9, 10, 1, 0] rfl ?_
                      exact Hagain74 _ _ _ h ok94 ok95
                    clear h
                    refine z_if_ge C d_n_sum3_263 ok90 (fun hb91 => ?_) (fun hb91 => ?_)
                    · refine z_iconst C d_n_sum3_270 ?_
                      exact hj _ (if_pos hb91).symm
                    · refine z_iconst C d_n_sum3_266 ?_
                      refine z_goto C d_n_sum3_267 ?_
                      exact hj _ (if_neg (Int.not_le.mpr hb91)).symm
                  clear h
                  refine z_icmp_ge C d_n_sum3_240 ok73 ok84 (fun hb85 => ?_) (fun hb85 => ?_)
                  · refine z_iconst C d_n_sum3_254 ?_
                    exact hj _ (if_pos hb85).symm
                  · refine z_aload C 5 d_n_sum3_243 rfl ?_
                    refine z_nget_d C d_n_sum3_245 k_30 ok63 ?_
                    refine z_iload C 9 d_n_sum3_248 rfl ?_
                    refine z_ialdN C (600) d_n_sum3_250 (isN.A ok63) (ln_num ok63) hc83 ?_
                    refine z_goto C d_n_sum3_251 ?_
                    exact hj _ (if_neg (Int.not_le.mpr hb85)).symm
              · intro J64 HJ64 h
                refine z_if_eq C d_n_sum3_191 ok58 (fun hb96 => ?_) (fun hb96 => ?_)
                · have h := h.1 hb96
                  refine z_aload_n C 2 d_n_sum3_198 rfl ?_
                  refine z_sub [(0, .ref (zA G t)), (4, .int (iI v4_1)), (5, .int (iI v5_3)), (8, .int (iI s56)), (9, .ref (zA G s59))] [1, 4, 5, 6, 0] rfl ?_
                  exact HJ64 _ h h_a
                · have h := h.2 hb96
                  refine z_aload_n C 3 d_n_sum3_194 rfl ?_
                  refine z_goto C d_n_sum3_195 ?_
                  refine z_sub [(0, .ref (zA G t)), (4, .int (iI v4_1)), (5, .int (iI v5_3)), (8, .int (iI s56)), (9, .ref (zA G s59))] [1, 4, 5, 6, 0] rfl ?_
                  exact HJ64 _ h h_b
            · intro J61 HJ61 h
              refine z_if_eq C d_n_sum3_179 ok58 (fun hb97 => ?_) (fun hb97 => ?_)
              · have h := h.1 hb97
                refine z_aload_n C 7 d_n_sum3_186 rfl ?_
                refine z_sub [(0, .ref (zA G t)), (1, .ref (zA G a)), (2, .ref (zA G b)), (4, .int (iI v4_1)), (5, .int (iI v5_3)), (8, .int (iI s56))] [5, 6, 7, 4, 3, 0] rfl ?_
                exact HJ61 _ h h_b
              · have h := h.2 hb97
                refine z_aload_n C 6 d_n_sum3_182 rfl ?_
                refine z_goto C d_n_sum3_183 ?_
                refine z_sub [(0, .ref (zA G t)), (1, .ref (zA G a)), (2, .ref (zA G b)), (4, .int (iI v4_1)), (5, .int (iI v5_3)), (8, .int (iI s56))] [5, 6, 7, 4, 3, 0] rfl ?_
                exact HJ61 _ h h_a
          clear h
          refine z_if_lt C d_n_sum3_167 ok54 (fun hb55 => ?_) (fun hb55 => ?_)
          · refine z_iconst C d_n_sum3_174 ?_
            exact hj _ (if_pos hb55).symm
          · refine z_iconst C d_n_sum3_170 ?_
            refine z_goto C d_n_sum3_171 ?_
            exact hj _ (if_neg (Int.not_lt.mpr hb55)).symm
        · have h := h.2 hb52
          refine z_sub [(0, .ref (zA G t)), (1, .ref (zA G a)), (2, .ref (zA G b)), (4, .int (iI v4_1)), (5, .int (iI v5_3)), (6, .int (iI v6_5)), (7, .int (iI v7_7))] [4, 5, 6, 3, 2, 1, 0] rfl ?_
          exact HJ10 h
theorem d_n_sum_0 : DD b_n_sum 0 (.aload_n 0) 1 1 := ⟨by decide +kernel, rfl⟩
theorem d_n_sum_1 : DD b_n_sum 1 (.aload_n 1) 1 2 := ⟨by decide +kernel, rfl⟩
theorem d_n_sum_2 : DD b_n_sum 2 (.aload_n 2) 1 3 := ⟨by decide +kernel, rfl⟩
theorem d_n_sum_3 : DD b_n_sum 3 (.iconst 1) 1 4 := ⟨by decide +kernel, rfl⟩
theorem d_n_sum_4 : DD b_n_sum 4 (.invokevirtual 51) 3 7 := ⟨by decide +kernel, rfl⟩
theorem d_n_sum_7 : DD b_n_sum 7 .return_ 1 8 := ⟨by decide +kernel, rfl⟩
set_option maxRecDepth 20000 in
set_option maxHeartbeats 4000000 in
theorem c_n_sum (l : Launch) (G : ZG) {t a b : Int} {σ : Mem} {K : Mem → Prop} (h : wp_n_sum t a b σ K) (h_t : isN t) (h_a : isN a) (h_b : isN b) : Ct l G y_n_sum (.code y_n_sum b_n_sum 3 none) { frames := 2, cells := 0, slots := 0, locals := 57 } 0 0 0 [.ref (zA G t), .ref (zA G a), .ref (zA G b)] σ (fun _ σ1 => K σ1) (fun _ _ => False) := by
  unfold wp_n_sum at h
  refine Ct.ofZ [(0, .ref (zA G t)), (1, .ref (zA G a)), (2, .ref (zA G b))] "LimbDesk$Num" (by decide) rfl (Nat.le_of_ble_eq_true rfl) rfl ?_
  intro E hR hlE C hr hX
  subst hlE
  have hroom_n_sum3 : 1 + 1 ≤ (zR E).frames ∧ 8 + (16 + 11) + 22 ≤ (zR E).locals ∧ 0 + 0 ≤ (zR E).cells ∧ 0 + 0 ≤ (zR E).slots := by rw [hR]; decide
  clear hR
  obtain ⟨Q, hQ⟩ : ∃ Q, Q = MQX G (zb E) 0 (fun _ σ1 => K σ1) (fun _ _ => False) (zs E) 0 0 0 0 := ⟨_, rfl⟩
  show Z E G 3 0 0 (MQX G (zb E) 0 (fun _ σ1 => K σ1) (fun _ _ => False) (zs E) 0 0 0 0) σ 0 [(0, .ref (zA G t)), (1, .ref (zA G a)), (2, .ref (zA G b))] []
  rw [← hQ]
  refine z_aload_n C 0 d_n_sum_0 rfl ?_
  refine z_aload_n C 1 d_n_sum_1 rfl ?_
  refine z_aload_n C 2 d_n_sum_2 rfl ?_
  refine z_iconst C d_n_sum_3 ?_
  refine z_callV C "LimbDesk$Num" [.ref (zA G a), .ref (zA G b), .int (iI 1)] [] 3 d_n_sum_4 (c_n_sum3 (zl E) G h h_t h_a h_b (okI_lit rfl)) k_302 k_299 k_301 k_s4 k_2 (by decide) (recv_N C h_t) (by decide +kernel) rfl rfl (Nat.le_of_ble_eq_true rfl) hroom_n_sum3 (fun _r σ1 ok2 hq => ?_) (fun _ _ hx => hx.elim)
  have h := hq
  subst hQ
  exact z_return C d_n_sum_7.1 hr ⟨Nat.zero_le _, Nat.zero_le _⟩ h
theorem d_n_difference_0 : DD b_n_difference 0 (.aload_n 0) 1 1 := ⟨by decide +kernel, rfl⟩
theorem d_n_difference_1 : DD b_n_difference 1 (.aload_n 1) 1 2 := ⟨by decide +kernel, rfl⟩
theorem d_n_difference_2 : DD b_n_difference 2 (.aload_n 2) 1 3 := ⟨by decide +kernel, rfl⟩
theorem d_n_difference_3 : DD b_n_difference 3 (.iconst (-1)) 1 4 := ⟨by decide +kernel, rfl⟩
theorem d_n_difference_4 : DD b_n_difference 4 (.invokevirtual 51) 3 7 := ⟨by decide +kernel, rfl⟩
theorem d_n_difference_7 : DD b_n_difference 7 .return_ 1 8 := ⟨by decide +kernel, rfl⟩
set_option maxRecDepth 20000 in
set_option maxHeartbeats 4000000 in
theorem c_n_difference (l : Launch) (G : ZG) {t a b : Int} {σ : Mem} {K : Mem → Prop} (h : wp_n_difference t a b σ K) (h_t : isN t) (h_a : isN a) (h_b : isN b) : Ct l G y_n_difference (.code y_n_difference b_n_difference 3 none) { frames := 2, cells := 0, slots := 0, locals := 57 } 0 0 0 [.ref (zA G t), .ref (zA G a), .ref (zA G b)] σ (fun _ σ1 => K σ1) (fun _ _ => False) := by
  unfold wp_n_difference at h
  refine Ct.ofZ [(0, .ref (zA G t)), (1, .ref (zA G a)), (2, .ref (zA G b))] "LimbDesk$Num" (by decide) rfl (Nat.le_of_ble_eq_true rfl) rfl ?_
  intro E hR hlE C hr hX
  subst hlE
  have hroom_n_sum3 : 1 + 1 ≤ (zR E).frames ∧ 8 + (16 + 11) + 22 ≤ (zR E).locals ∧ 0 + 0 ≤ (zR E).cells ∧ 0 + 0 ≤ (zR E).slots := by rw [hR]; decide
  clear hR
  obtain ⟨Q, hQ⟩ : ∃ Q, Q = MQX G (zb E) 0 (fun _ σ1 => K σ1) (fun _ _ => False) (zs E) 0 0 0 0 := ⟨_, rfl⟩
  show Z E G 3 0 0 (MQX G (zb E) 0 (fun _ σ1 => K σ1) (fun _ _ => False) (zs E) 0 0 0 0) σ 0 [(0, .ref (zA G t)), (1, .ref (zA G a)), (2, .ref (zA G b))] []
  rw [← hQ]
  refine z_aload_n C 0 d_n_difference_0 rfl ?_
  refine z_aload_n C 1 d_n_difference_1 rfl ?_
  refine z_aload_n C 2 d_n_difference_2 rfl ?_
  refine z_iconst C d_n_difference_3 ?_
  refine z_callV C "LimbDesk$Num" [.ref (zA G a), .ref (zA G b), .int (iI (-1))] [] 3 d_n_difference_4 (c_n_sum3 (zl E) G h h_t h_a h_b (okI_lit rfl)) k_302 k_299 k_301 k_s4 k_2 (by decide) (recv_N C h_t) (by decide +kernel) rfl rfl (Nat.le_of_ble_eq_true rfl) hroom_n_sum3 (fun _r σ1 ok2 hq => ?_) (fun _ _ hx => hx.elim)
  have h := hq
  subst hQ
  exact z_return C d_n_difference_7.1 hr ⟨Nat.zero_le _, Nat.zero_le _⟩ h
theorem d_n_product_0 : DD b_n_product 0 (.aload_n 1) 1 1 := ⟨by decide +kernel, rfl⟩
theorem d_n_product_1 : DD b_n_product 1 (.getfield 13) 3 4 := ⟨by decide +kernel, rfl⟩
theorem d_n_product_4 : DD b_n_product 4 (.aload_n 2) 1 5 := ⟨by decide +kernel, rfl⟩
theorem d_n_product_5 : DD b_n_product 5 (.getfield 13) 3 8 := ⟨by decide +kernel, rfl⟩
theorem d_n_product_8 : DD b_n_product 8 .iadd 1 9 := ⟨by decide +kernel, rfl⟩
theorem d_n_product_9 : DD b_n_product 9 (.istore_n 3) 1 10 := ⟨by decide +kernel, rfl⟩
theorem d_n_product_10 : DD b_n_product 10 (.iconst 0) 1 11 := ⟨by decide +kernel, rfl⟩
theorem d_n_product_11 : DD b_n_product 11 (.istore 4) 2 13 := ⟨by decide +kernel, rfl⟩
theorem d_n_product_13 : DD b_n_product 13 (.iload 4) 2 15 := ⟨by decide +kernel, rfl⟩
theorem d_n_product_15 : DD b_n_product 15 (.iload_n 3) 1 16 := ⟨by decide +kernel, rfl⟩
theorem d_n_product_16 : DB b_n_product 16 (.if_icmp .ge 17) 17 19 33 := ⟨by decide +kernel, rfl, rfl⟩
theorem d_n_product_19 : DD b_n_product 19 (.aload_n 0) 1 20 := ⟨by decide +kernel, rfl⟩
theorem d_n_product_20 : DD b_n_product 20 (.getfield 9) 3 23 := ⟨by decide +kernel, rfl⟩
theorem d_n_product_23 : DD b_n_product 23 (.iload 4) 2 25 := ⟨by decide +kernel, rfl⟩
theorem d_n_product_25 : DD b_n_product 25 (.iconst 0) 1 26 := ⟨by decide +kernel, rfl⟩
theorem d_n_product_26 : DD b_n_product 26 .iastore 1 27 := ⟨by decide +kernel, rfl⟩
theorem d_n_product_27 : DD b_n_product 27 (.iinc 4 1) 3 30 := ⟨by decide +kernel, rfl⟩
theorem d_n_product_30 : DB b_n_product 30 (.goto (-17)) (-17) 33 13 := ⟨by decide +kernel, rfl, rfl⟩
theorem d_n_product_33 : DD b_n_product 33 (.iconst 0) 1 34 := ⟨by decide +kernel, rfl⟩
theorem d_n_product_34 : DD b_n_product 34 (.istore 4) 2 36 := ⟨by decide +kernel, rfl⟩
theorem d_n_product_36 : DD b_n_product 36 (.iload 4) 2 38 := ⟨by decide +kernel, rfl⟩
theorem d_n_product_38 : DD b_n_product 38 (.aload_n 1) 1 39 := ⟨by decide +kernel, rfl⟩
theorem d_n_product_39 : DD b_n_product 39 (.getfield 13) 3 42 := ⟨by decide +kernel, rfl⟩
theorem d_n_product_42 : DB b_n_product 42 (.if_icmp .ge 107) 107 45 149 := ⟨by decide +kernel, rfl, rfl⟩
theorem d_n_product_45 : DD b_n_product 45 (.lconst 0) 1 46 := ⟨by decide +kernel, rfl⟩
theorem d_n_product_46 : DD b_n_product 46 (.lstore 5) 2 48 := ⟨by decide +kernel, rfl⟩
theorem d_n_product_48 : DD b_n_product 48 (.aload_n 1) 1 49 := ⟨by decide +kernel, rfl⟩
theorem d_n_product_49 : DD b_n_product 49 (.getfield 9) 3 52 := ⟨by decide +kernel, rfl⟩
theorem d_n_product_52 : DD b_n_product 52 (.iload 4) 2 54 := ⟨by decide +kernel, rfl⟩
theorem d_n_product_54 : DD b_n_product 54 .iaload 1 55 := ⟨by decide +kernel, rfl⟩
theorem d_n_product_55 : DD b_n_product 55 .i2l 1 56 := ⟨by decide +kernel, rfl⟩
theorem d_n_product_56 : DD b_n_product 56 (.lstore 7) 2 58 := ⟨by decide +kernel, rfl⟩
theorem d_n_product_58 : DD b_n_product 58 (.iconst 0) 1 59 := ⟨by decide +kernel, rfl⟩
theorem d_n_product_59 : DD b_n_product 59 (.istore 9) 2 61 := ⟨by decide +kernel, rfl⟩
theorem d_n_product_61 : DD b_n_product 61 (.iload 9) 2 63 := ⟨by decide +kernel, rfl⟩
theorem d_n_product_63 : DD b_n_product 63 (.aload_n 2) 1 64 := ⟨by decide +kernel, rfl⟩
theorem d_n_product_64 : DD b_n_product 64 (.getfield 13) 3 67 := ⟨by decide +kernel, rfl⟩
theorem d_n_product_67 : DB b_n_product 67 (.if_icmp .ge 61) 61 70 128 := ⟨by decide +kernel, rfl, rfl⟩
theorem d_n_product_70 : DD b_n_product 70 (.lload 7) 2 72 := ⟨by decide +kernel, rfl⟩
theorem d_n_product_72 : DD b_n_product 72 (.aload_n 2) 1 73 := ⟨by decide +kernel, rfl⟩
theorem d_n_product_73 : DD b_n_product 73 (.getfield 9) 3 76 := ⟨by decide +kernel, rfl⟩
theorem d_n_product_76 : DD b_n_product 76 (.iload 9) 2 78 := ⟨by decide +kernel, rfl⟩
theorem d_n_product_78 : DD b_n_product 78 .iaload 1 79 := ⟨by decide +kernel, rfl⟩
theorem d_n_product_79 : DD b_n_product 79 .i2l 1 80 := ⟨by decide +kernel, rfl⟩
theorem d_n_product_80 : DD b_n_product 80 .lmul 1 81 := ⟨by decide +kernel, rfl⟩
theorem d_n_product_81 : DD b_n_product 81 (.aload_n 0) 1 82 := ⟨by decide +kernel, rfl⟩
theorem d_n_product_82 : DD b_n_product 82 (.getfield 9) 3 85 := ⟨by decide +kernel, rfl⟩
theorem d_n_product_85 : DD b_n_product 85 (.iload 4) 2 87 := ⟨by decide +kernel, rfl⟩
theorem d_n_product_87 : DD b_n_product 87 (.iload 9) 2 89 := ⟨by decide +kernel, rfl⟩
theorem d_n_product_89 : DD b_n_product 89 .iadd 1 90 := ⟨by decide +kernel, rfl⟩
theorem d_n_product_90 : DD b_n_product 90 .iaload 1 91 := ⟨by decide +kernel, rfl⟩
theorem d_n_product_91 : DD b_n_product 91 .i2l 1 92 := ⟨by decide +kernel, rfl⟩
theorem d_n_product_92 : DD b_n_product 92 .ladd 1 93 := ⟨by decide +kernel, rfl⟩
theorem d_n_product_93 : DD b_n_product 93 (.lload 5) 2 95 := ⟨by decide +kernel, rfl⟩
theorem d_n_product_95 : DD b_n_product 95 .ladd 1 96 := ⟨by decide +kernel, rfl⟩
theorem d_n_product_96 : DD b_n_product 96 (.lstore 10) 2 98 := ⟨by decide +kernel, rfl⟩
theorem d_n_product_98 : DD b_n_product 98 (.aload_n 0) 1 99 := ⟨by decide +kernel, rfl⟩
theorem d_n_product_99 : DD b_n_product 99 (.getfield 9) 3 102 := ⟨by decide +kernel, rfl⟩
theorem d_n_product_102 : DD b_n_product 102 (.iload 4) 2 104 := ⟨by decide +kernel, rfl⟩
theorem d_n_product_104 : DD b_n_product 104 (.iload 9) 2 106 := ⟨by decide +kernel, rfl⟩
theorem d_n_product_106 : DD b_n_product 106 .iadd 1 107 := ⟨by decide +kernel, rfl⟩
theorem d_n_product_107 : DD b_n_product 107 (.lload 10) 2 109 := ⟨by decide +kernel, rfl⟩
theorem d_n_product_109 : DD b_n_product 109 (.ldc2_w 20) 3 112 := ⟨by decide +kernel, rfl⟩
theorem d_n_product_112 : DD b_n_product 112 .land 1 113 := ⟨by decide +kernel, rfl⟩
theorem d_n_product_113 : DD b_n_product 113 .l2i 1 114 := ⟨by decide +kernel, rfl⟩
theorem d_n_product_114 : DD b_n_product 114 .iastore 1 115 := ⟨by decide +kernel, rfl⟩
theorem d_n_product_115 : DD b_n_product 115 (.lload 10) 2 117 := ⟨by decide +kernel, rfl⟩
theorem d_n_product_117 : DD b_n_product 117 (.bipush 24) 2 119 := ⟨by decide +kernel, rfl⟩
theorem d_n_product_119 : DD b_n_product 119 .lushr 1 120 := ⟨by decide +kernel, rfl⟩
theorem d_n_product_120 : DD b_n_product 120 (.lstore 5) 2 122 := ⟨by decide +kernel, rfl⟩
theorem d_n_product_122 : DD b_n_product 122 (.iinc 9 1) 3 125 := ⟨by decide +kernel, rfl⟩
theorem d_n_product_125 : DB b_n_product 125 (.goto (-64)) (-64) 128 61 := ⟨by decide +kernel, rfl, rfl⟩
theorem d_n_product_128 : DD b_n_product 128 (.aload_n 0) 1 129 := ⟨by decide +kernel, rfl⟩
theorem d_n_product_129 : DD b_n_product 129 (.getfield 9) 3 132 := ⟨by decide +kernel, rfl⟩
theorem d_n_product_132 : DD b_n_product 132 (.iload 4) 2 134 := ⟨by decide +kernel, rfl⟩
theorem d_n_product_134 : DD b_n_product 134 (.aload_n 2) 1 135 := ⟨by decide +kernel, rfl⟩
theorem d_n_product_135 : DD b_n_product 135 (.getfield 13) 3 138 := ⟨by decide +kernel, rfl⟩
theorem d_n_product_138 : DD b_n_product 138 .iadd 1 139 := ⟨by decide +kernel, rfl⟩
theorem d_n_product_139 : DD b_n_product 139 (.lload 5) 2 141 := ⟨by decide +kernel, rfl⟩
theorem d_n_product_141 : DD b_n_product 141 .l2i 1 142 := ⟨by decide +kernel, rfl⟩
theorem d_n_product_142 : DD b_n_product 142 .iastore 1 143 := ⟨by decide +kernel, rfl⟩
theorem d_n_product_143 : DD b_n_product 143 (.iinc 4 1) 3 146 := ⟨by decide +kernel, rfl⟩
theorem d_n_product_146 : DB b_n_product 146 (.goto (-110)) (-110) 149 36 := ⟨by decide +kernel, rfl, rfl⟩
theorem d_n_product_149 : DD b_n_product 149 (.aload_n 0) 1 150 := ⟨by decide +kernel, rfl⟩
theorem d_n_product_150 : DD b_n_product 150 (.iload_n 3) 1 151 := ⟨by decide +kernel, rfl⟩
theorem d_n_product_151 : DD b_n_product 151 (.aload_n 1) 1 152 := ⟨by decide +kernel, rfl⟩
theorem d_n_product_152 : DD b_n_product 152 (.getfield 17) 3 155 := ⟨by decide +kernel, rfl⟩
theorem d_n_product_155 : DD b_n_product 155 (.aload_n 2) 1 156 := ⟨by decide +kernel, rfl⟩
theorem d_n_product_156 : DD b_n_product 156 (.getfield 17) 3 159 := ⟨by decide +kernel, rfl⟩
theorem d_n_product_159 : DD b_n_product 159 .imul 1 160 := ⟨by decide +kernel, rfl⟩
theorem d_n_product_160 : DD b_n_product 160 (.invokevirtual 22) 3 163 := ⟨by decide +kernel, rfl⟩
theorem d_n_product_163 : DD b_n_product 163 .return_ 1 164 := ⟨by decide +kernel, rfl⟩
set_option maxRecDepth 20000 in
set_option maxHeartbeats 4000000 in
theorem c_n_product (l : Launch) (G : ZG) {t a b : Int} {σ : Mem} {K : Mem → Prop} (h : wp_n_product t a b σ K) (h_t : isN t) (h_a : isN a) (h_b : isN b) : Ct l G y_n_product (.code y_n_product b_n_product 12 none) { frames := 1, cells := 0, slots := 0, locals := 22 } 0 0 0 [.ref (zA G t), .ref (zA G a), .ref (zA G b)] σ (fun _ σ1 => K σ1) (fun _ _ => False) := by
  unfold wp_n_product at h
  refine Ct.ofZ [(0, .ref (zA G t)), (1, .ref (zA G a)), (2, .ref (zA G b))] "LimbDesk$Num" (by decide) rfl (Nat.le_of_ble_eq_true rfl) rfl ?_
  intro E hR hlE C hr hX
  subst hlE
  have hroom_n_trim : 0 + 1 ≤ (zR E).frames ∧ 8 + (3 + 11) + 0 ≤ (zR E).locals ∧ 0 + 0 ≤ (zR E).cells ∧ 0 + 0 ≤ (zR E).slots := by rw [hR]; decide
  clear hR
  obtain ⟨Q, hQ⟩ : ∃ Q, Q = MQX G (zb E) 0 (fun _ σ1 => K σ1) (fun _ _ => False) (zs E) 0 0 0 0 := ⟨_, rfl⟩
  show Z E G 12 0 0 (MQX G (zb E) 0 (fun _ σ1 => K σ1) (fun _ _ => False) (zs E) 0 0 0 0) σ 0 [(0, .ref (zA G t)), (1, .ref (zA G a)), (2, .ref (zA G b))] []
  rw [← hQ]
  refine z_aload_n C 1 d_n_product_0 rfl ?_
  refine z_nget_n C d_n_product_1 k_32 h_a ?_
  refine z_aload_n C 2 d_n_product_4 rfl ?_
  refine z_nget_n C d_n_product_5 k_32 h_b ?_
  refine z_iadd C d_n_product_8 ?_
  refine z_namei (fun v3_1 e2 => ?_)
  have h := h v3_1 e2
  refine z_istore_n C [(3, .int (iI v3_1)), (0, .ref (zA G t)), (1, .ref (zA G a)), (2, .ref (zA G b))] d_n_product_9 (by decide) rfl ?_
  refine z_iconst C d_n_product_10 ?_
  refine z_istore C [(4, .int (iI 0)), (3, .int (iI v3_1)), (0, .ref (zA G t)), (1, .ref (zA G a)), (2, .ref (zA G b))] d_n_product_11 (by decide) rfl ?_
  refine z_sub [(0, .ref (zA G t)), (1, .ref (zA G a)), (2, .ref (zA G b)), (3, .int (iI v3_1)), (4, .int (iI 0))] [2, 3, 4, 1, 0] rfl ?_
  refine (Lo1.walk (P := fun v4_3 σ4 => okI v4_3 → Z E G 12 0 0 Q σ4 13 [(0, .ref (zA G t)), (1, .ref (zA G a)), (2, .ref (zA G b)), (3, .int (iI v3_1)), (4, .int (iI v4_3))] []) ?_ h) (okI_lit rfl)
  intro v4_3 σ4 again6 Hagain6 h ok5
  refine z_iload C 4 d_n_product_13 rfl ?_
  refine z_iload_n C 3 d_n_product_15 rfl ?_
  obtain ⟨ok7, h⟩ := h
  refine z_icmp_ge C d_n_product_16 ok5 ok7 (fun hb8 => ?_) (fun hb8 => ?_)
  · have h := h.1 hb8
    refine z_iconst C d_n_product_33 ?_
    refine z_istore C [(4, .int (iI 0)), (0, .ref (zA G t)), (1, .ref (zA G a)), (2, .ref (zA G b)), (3, .int (iI v3_1))] d_n_product_34 (by decide) rfl ?_
    refine z_sub [(0, .ref (zA G t)), (1, .ref (zA G a)), (2, .ref (zA G b)), (3, .int (iI v3_1)), (4, .int (iI 0))] [1, 2, 3, 4, 0] rfl ?_
    refine (Lo1.walk (P := fun v4_9 σ10 => okI v4_9 → Z E G 12 0 0 Q σ10 36 [(0, .ref (zA G t)), (1, .ref (zA G a)), (2, .ref (zA G b)), (3, .int (iI v3_1)), (4, .int (iI v4_9))] []) ?_ h) (okI_lit rfl)
    intro v4_9 σ10 again12 Hagain12 h ok11
    refine z_iload C 4 d_n_product_36 rfl ?_
    refine z_aload_n C 1 d_n_product_38 rfl ?_
    refine z_nget_n C d_n_product_39 k_32 h_a ?_
    obtain ⟨ok13, h⟩ := h
    refine z_icmp_ge C d_n_product_42 ok11 ok13 (fun hb14 => ?_) (fun hb14 => ?_)
    · have h := h.1 hb14
      refine z_aload_n C 0 d_n_product_149 rfl ?_
      refine z_iload_n C 3 d_n_product_150 rfl ?_
      refine z_aload_n C 1 d_n_product_151 rfl ?_
      refine z_nget_sign C d_n_product_152 k_33 h_a ?_
      refine z_aload_n C 2 d_n_product_155 rfl ?_
      refine z_nget_sign C d_n_product_156 k_33 h_b ?_
      refine z_imul C d_n_product_159 ?_
      obtain ⟨ok15, h⟩ := h
      refine z_callV C "LimbDesk$Num" [.int (iI v3_1), .int (iI ((σ10 a 2) * (σ10 b 2)))] [] 2 d_n_product_160 (c_n_trim (zl E) G h h_t ok7 ok15) k_168 k_165 k_167 k_s2 k_2 (by decide) (recv_N C h_t) (by decide +kernel) rfl rfl (Nat.le_of_ble_eq_true rfl) hroom_n_trim (fun _r σ16 ok17 hq => ?_) (fun _ _ hx => hx.elim)
      have h := hq
      subst hQ
      exact z_return C d_n_product_163.1 hr ⟨Nat.zero_le _, Nat.zero_le _⟩ h
    · have h := h.2 hb14
      refine z_lconst C d_n_product_45 ?_
      refine z_lstore C [(5, .long (lL 0)), (0, .ref (zA G t)), (1, .ref (zA G a)), (2, .ref (zA G b)), (3, .int (iI v3_1)), (4, .int (iI v4_9))] d_n_product_46 (by decide) rfl ?_
      refine z_aload_n C 2 d_n_product_48 rfl ?_
      refine z_nget_d C d_n_product_49 k_30 h_a ?_
      refine z_iload C 5 d_n_product_52 rfl ?_
      obtain ⟨hc18, h⟩ := h
      refine z_ialdN C (600) d_n_product_54 (isN.A h_a) (ln_num h_a) hc18 ?_
      obtain ⟨ok19, h⟩ := h
      refine z_i2l C d_n_product_55 ok19 ?_
      refine z_namel (fun v7_20 e21 => ?_)
      have h := h v7_20 e21
      have ok22 : okL v7_20 := by rw [e21]; exact ok19.L
      refine z_lstore C [(7, .long (lL v7_20)), (5, .long (lL 0)), (0, .ref (zA G t)), (1, .ref (zA G a)), (2, .ref (zA G b)), (3, .int (iI v3_1)), (4, .int (iI v4_9))] d_n_product_56 (by decide) rfl ?_
      refine z_iconst C d_n_product_58 ?_
      refine z_istore C [(9, .int (iI 0)), (7, .long (lL v7_20)), (5, .long (lL 0)), (0, .ref (zA G t)), (1, .ref (zA G a)), (2, .ref (zA G b)), (3, .int (iI v3_1)), (4, .int (iI v4_9))] d_n_product_59 (by decide) rfl ?_
      refine z_sub [(0, .ref (zA G t)), (1, .ref (zA G a)), (2, .ref (zA G b)), (3, .int (iI v3_1)), (4, .int (iI v4_9)), (5, .long (lL 0)), (7, .long (lL v7_20)), (9, .int (iI 0))] [3, 4, 5, 6, 7, 2, 1, 0] rfl ?_
      refine (Lo2.walk (P := fun v5_23 v9_24 σ25 => okI v9_24 → Z E G 12 0 0 Q σ25 61 [(0, .ref (zA G t)), (1, .ref (zA G a)), (2, .ref (zA G b)), (3, .int (iI v3_1)), (4, .int (iI v4_9)), (5, .long (lL v5_23)), (7, .long (lL v7_20)), (9, .int (iI v9_24))] []) ?_ h) (okI_lit rfl)
      intro v5_23 v9_24 σ25 again27 Hagain27 h ok26
      refine z_iload C 7 d_n_product_61 rfl ?_
      refine z_aload_n C 2 d_n_product_63 rfl ?_
      refine z_nget_n C d_n_product_64 k_32 h_b ?_
      obtain ⟨ok28, h⟩ := h
      refine z_icmp_ge C d_n_product_67 ok26 ok28 (fun hb29 => ?_) (fun hb29 => ?_)
      · have h := h.1 hb29
        refine z_aload_n C 0 d_n_product_128 rfl ?_
        refine z_nget_d C d_n_product_129 k_30 h_t ?_
        refine z_iload C 4 d_n_product_132 rfl ?_
        refine z_aload_n C 2 d_n_product_134 rfl ?_
        refine z_nget_n C d_n_product_135 k_32 h_b ?_
        refine z_iadd C d_n_product_138 ?_
        refine z_lload C 5 d_n_product_139 rfl ?_
        refine z_l2i C d_n_product_141 ?_
        obtain ⟨hc30, h⟩ := h
        refine z_iastN C (600) d_n_product_142 (isN.A h_t) (ln_num h_t) hc30 ?_
        refine z_iinc C 4 [(4, .int (iI (v4_9 + 1))), (0, .ref (zA G t)), (1, .ref (zA G a)), (2, .ref (zA G b)), (3, .int (iI v3_1)), (5, .long (lL v5_23)), (7, .long (lL v7_20)), (9, .int (iI v9_24))] d_n_product_143 rfl (by decide) rfl ?_
        refine z_goto C d_n_product_146 ?_
        obtain ⟨ok31, h⟩ := h
        refine z_sub [(0, .ref (zA G t)), (1, .ref (zA G a)), (2, .ref (zA G b)), (3, .int (iI v3_1)), (4, .int (iI (v4_9 + 1)))] [1, 2, 3, 4, 0] rfl ?_
        exact Hagain12 _ _ h ok31
      · have h := h.2 hb29
        refine z_lload C 6 d_n_product_70 rfl ?_
        refine z_aload_n C 2 d_n_product_72 rfl ?_
        refine z_nget_d C d_n_product_73 k_30 h_b ?_
        refine z_iload C 7 d_n_product_76 rfl ?_
        obtain ⟨hc32, h⟩ := h
        refine z_ialdN C (600) d_n_product_78 (isN.A h_b) (ln_num h_b) hc32 ?_
        obtain ⟨ok33, h⟩ := h
        refine z_i2l C d_n_product_79 ok33 ?_
        refine z_lmul C d_n_product_80 ?_
        refine z_aload_n C 0 d_n_product_81 rfl ?_
        refine z_nget_d C d_n_product_82 k_30 h_t ?_
        refine z_iload C 4 d_n_product_85 rfl ?_
        refine z_iload C 7 d_n_product_87 rfl ?_
        refine z_iadd C d_n_product_89 ?_
        obtain ⟨hc34, h⟩ := h
        refine z_ialdN C (600) d_n_product_90 (isN.A h_t) (ln_num h_t) hc34 ?_
        obtain ⟨ok35, h⟩ := h
        refine z_i2l C d_n_product_91 ok35 ?_
        refine z_ladd C d_n_product_92 ?_
        refine z_lload C 5 d_n_product_93 rfl ?_
        refine z_ladd C d_n_product_95 ?_
        refine z_namel (fun v10_36 e37 => ?_)
        have h := h v10_36 e37
        refine z_lstore C [(10, .long (lL v10_36)), (0, .ref (zA G t)), (1, .ref (zA G a)), (2, .ref (zA G b)), (3, .int (iI v3_1)), (4, .int (iI v4_9)), (5, .long (lL v5_23)), (7, .long (lL v7_20)), (9, .int (iI v9_24))] d_n_product_96 (by decide) rfl ?_
        refine z_aload_n C 1 d_n_product_98 rfl ?_
        refine z_nget_d C d_n_product_99 k_30 h_t ?_
        refine z_iload C 5 d_n_product_102 rfl ?_
        refine z_iload C 8 d_n_product_104 rfl ?_
        refine z_iadd C d_n_product_106 ?_
        refine z_lload C 0 d_n_product_107 rfl ?_
        refine z_ldc2 C d_n_product_109 k_164 (n := 16777215) (by decide) ?_
        refine z_lmask C 24 16777216 d_n_product_112 (by decide) (by decide) (by decide) ?_
        refine z_l2i C d_n_product_113 ?_
        refine z_iastN C (600) d_n_product_114 (isN.A h_t) (ln_num h_t) hc34 ?_
        refine z_lload C 0 d_n_product_115 rfl ?_
        refine z_bipush C d_n_product_117 (by decide) ?_
        refine z_lushrK C 16777216 d_n_product_119 (by decide) ⟨by decide, by decide⟩ ?_
        refine z_namel (fun v5_38 e39 => ?_)
        have h := h v5_38 e39
        refine z_lstore C [(5, .long (lL v5_38)), (10, .long (lL v10_36)), (0, .ref (zA G t)), (1, .ref (zA G a)), (2, .ref (zA G b)), (3, .int (iI v3_1)), (4, .int (iI v4_9)), (7, .long (lL v7_20)), (9, .int (iI v9_24))] d_n_product_120 (by decide) rfl ?_
        refine z_iinc C 8 [(9, .int (iI (v9_24 + 1))), (5, .long (lL v5_38)), (10, .long (lL v10_36)), (0, .ref (zA G t)), (1, .ref (zA G a)), (2, .ref (zA G b)), (3, .int (iI v3_1)), (4, .int (iI v4_9)), (7, .long (lL v7_20))] d_n_product_122 rfl (by decide) rfl ?_
        refine z_goto C d_n_product_125 ?_
        obtain ⟨ok40, h⟩ := h
        refine z_sub [(0, .ref (zA G t)), (1, .ref (zA G a)), (2, .ref (zA G b)), (3, .int (iI v3_1)), (4, .int (iI v4_9)), (5, .long (lL v5_38)), (7, .long (lL v7_20)), (9, .int (iI (v9_24 + 1)))] [3, 4, 5, 6, 7, 1, 8, 0] rfl ?_
        exact Hagain27 _ _ _ h ok40
  · have h := h.2 hb8
    refine z_aload_n C 0 d_n_product_19 rfl ?_
    refine z_nget_d C d_n_product_20 k_30 h_t ?_
    refine z_iload C 4 d_n_product_23 rfl ?_
    refine z_iconst C d_n_product_25 ?_
    obtain ⟨hc41, h⟩ := h
    refine z_iastN C (600) d_n_product_26 (isN.A h_t) (ln_num h_t) hc41 ?_
    refine z_iinc C 4 [(4, .int (iI (v4_3 + 1))), (0, .ref (zA G t)), (1, .ref (zA G a)), (2, .ref (zA G b)), (3, .int (iI v3_1))] d_n_product_27 rfl (by decide) rfl ?_
    refine z_goto C d_n_product_30 ?_
    obtain ⟨ok42, h⟩ := h
    refine z_sub [(0, .ref (zA G t)), (1, .ref (zA G a)), (2, .ref (zA G b)), (3, .int (iI v3_1)), (4, .int (iI (v4_3 + 1)))] [1, 2, 3, 4, 0] rfl ?_
    exact Hagain6 _ _ h ok42
theorem d_n_left_0 : DD b_n_left 0 (.iload_n 2) 1 1 := ⟨by decide +kernel, rfl⟩
theorem d_n_left_1 : DD b_n_left 1 (.bipush 24) 2 3 := ⟨by decide +kernel, rfl⟩
theorem d_n_left_3 : DD b_n_left 3 .idiv 1 4 := ⟨by decide +kernel, rfl⟩
theorem d_n_left_4 : DD b_n_left 4 (.istore_n 3) 1 5 := ⟨by decide +kernel, rfl⟩
theorem d_n_left_5 : DD b_n_left 5 (.iload_n 2) 1 6 := ⟨by decide +kernel, rfl⟩
theorem d_n_left_6 : DD b_n_left 6 (.bipush 24) 2 8 := ⟨by decide +kernel, rfl⟩
theorem d_n_left_8 : DD b_n_left 8 .irem 1 9 := ⟨by decide +kernel, rfl⟩
theorem d_n_left_9 : DD b_n_left 9 (.istore 4) 2 11 := ⟨by decide +kernel, rfl⟩
theorem d_n_left_11 : DD b_n_left 11 (.aload_n 1) 1 12 := ⟨by decide +kernel, rfl⟩
theorem d_n_left_12 : DD b_n_left 12 (.getfield 13) 3 15 := ⟨by decide +kernel, rfl⟩
theorem d_n_left_15 : DD b_n_left 15 (.istore 5) 2 17 := ⟨by decide +kernel, rfl⟩
theorem d_n_left_17 : DD b_n_left 17 (.aload_n 0) 1 18 := ⟨by decide +kernel, rfl⟩
theorem d_n_left_18 : DD b_n_left 18 (.getfield 9) 3 21 := ⟨by decide +kernel, rfl⟩
theorem d_n_left_21 : DD b_n_left 21 (.iload 5) 2 23 := ⟨by decide +kernel, rfl⟩
theorem d_n_left_23 : DD b_n_left 23 (.iload_n 3) 1 24 := ⟨by decide +kernel, rfl⟩
theorem d_n_left_24 : DD b_n_left 24 .iadd 1 25 := ⟨by decide +kernel, rfl⟩
theorem d_n_left_25 : DD b_n_left 25 (.iconst 0) 1 26 := ⟨by decide +kernel, rfl⟩
theorem d_n_left_26 : DD b_n_left 26 .iastore 1 27 := ⟨by decide +kernel, rfl⟩
theorem d_n_left_27 : DD b_n_left 27 (.iload 5) 2 29 := ⟨by decide +kernel, rfl⟩
theorem d_n_left_29 : DD b_n_left 29 (.iconst 1) 1 30 := ⟨by decide +kernel, rfl⟩
theorem d_n_left_30 : DD b_n_left 30 .isub 1 31 := ⟨by decide +kernel, rfl⟩
theorem d_n_left_31 : DD b_n_left 31 (.istore 6) 2 33 := ⟨by decide +kernel, rfl⟩
theorem d_n_left_33 : DD b_n_left 33 (.iload 6) 2 35 := ⟨by decide +kernel, rfl⟩
theorem d_n_left_35 : DB b_n_left 35 (.ifCond .lt 58) 58 38 93 := ⟨by decide +kernel, rfl, rfl⟩
theorem d_n_left_38 : DD b_n_left 38 (.aload_n 1) 1 39 := ⟨by decide +kernel, rfl⟩
theorem d_n_left_39 : DD b_n_left 39 (.getfield 9) 3 42 := ⟨by decide +kernel, rfl⟩
theorem d_n_left_42 : DD b_n_left 42 (.iload 6) 2 44 := ⟨by decide +kernel, rfl⟩
theorem d_n_left_44 : DD b_n_left 44 .iaload 1 45 := ⟨by decide +kernel, rfl⟩
theorem d_n_left_45 : DD b_n_left 45 .i2l 1 46 := ⟨by decide +kernel, rfl⟩
theorem d_n_left_46 : DD b_n_left 46 (.iload 4) 2 48 := ⟨by decide +kernel, rfl⟩
theorem d_n_left_48 : DD b_n_left 48 .lshl 1 49 := ⟨by decide +kernel, rfl⟩
theorem d_n_left_49 : DD b_n_left 49 (.lstore 7) 2 51 := ⟨by decide +kernel, rfl⟩
theorem d_n_left_51 : DD b_n_left 51 (.aload_n 0) 1 52 := ⟨by decide +kernel, rfl⟩
theorem d_n_left_52 : DD b_n_left 52 (.getfield 9) 3 55 := ⟨by decide +kernel, rfl⟩
theorem d_n_left_55 : DD b_n_left 55 (.iload 6) 2 57 := ⟨by decide +kernel, rfl⟩
theorem d_n_left_57 : DD b_n_left 57 (.iload_n 3) 1 58 := ⟨by decide +kernel, rfl⟩
theorem d_n_left_58 : DD b_n_left 58 .iadd 1 59 := ⟨by decide +kernel, rfl⟩
theorem d_n_left_59 : DD b_n_left 59 (.iconst 1) 1 60 := ⟨by decide +kernel, rfl⟩
theorem d_n_left_60 : DD b_n_left 60 .iadd 1 61 := ⟨by decide +kernel, rfl⟩
theorem d_n_left_61 : DD b_n_left 61 .dup2 1 62 := ⟨by decide +kernel, rfl⟩
theorem d_n_left_62 : DD b_n_left 62 .iaload 1 63 := ⟨by decide +kernel, rfl⟩
theorem d_n_left_63 : DD b_n_left 63 (.lload 7) 2 65 := ⟨by decide +kernel, rfl⟩
theorem d_n_left_65 : DD b_n_left 65 (.bipush 24) 2 67 := ⟨by decide +kernel, rfl⟩
theorem d_n_left_67 : DD b_n_left 67 .lushr 1 68 := ⟨by decide +kernel, rfl⟩
theorem d_n_left_68 : DD b_n_left 68 .l2i 1 69 := ⟨by decide +kernel, rfl⟩
theorem d_n_left_69 : DD b_n_left 69 .ior 1 70 := ⟨by decide +kernel, rfl⟩
theorem d_n_left_70 : DD b_n_left 70 .iastore 1 71 := ⟨by decide +kernel, rfl⟩
theorem d_n_left_71 : DD b_n_left 71 (.aload_n 0) 1 72 := ⟨by decide +kernel, rfl⟩
theorem d_n_left_72 : DD b_n_left 72 (.getfield 9) 3 75 := ⟨by decide +kernel, rfl⟩
theorem d_n_left_75 : DD b_n_left 75 (.iload 6) 2 77 := ⟨by decide +kernel, rfl⟩
theorem d_n_left_77 : DD b_n_left 77 (.iload_n 3) 1 78 := ⟨by decide +kernel, rfl⟩
theorem d_n_left_78 : DD b_n_left 78 .iadd 1 79 := ⟨by decide +kernel, rfl⟩
theorem d_n_left_79 : DD b_n_left 79 (.lload 7) 2 81 := ⟨by decide +kernel, rfl⟩
theorem d_n_left_81 : DD b_n_left 81 (.ldc2_w 20) 3 84 := ⟨by decide +kernel, rfl⟩
theorem d_n_left_84 : DD b_n_left 84 .land 1 85 := ⟨by decide +kernel, rfl⟩
theorem d_n_left_85 : DD b_n_left 85 .l2i 1 86 := ⟨by decide +kernel, rfl⟩
theorem d_n_left_86 : DD b_n_left 86 .iastore 1 87 := ⟨by decide +kernel, rfl⟩
theorem d_n_left_87 : DD b_n_left 87 (.iinc 6 (-1)) 3 90 := ⟨by decide +kernel, rfl⟩
theorem d_n_left_90 : DB b_n_left 90 (.goto (-57)) (-57) 93 33 := ⟨by decide +kernel, rfl, rfl⟩
theorem d_n_left_93 : DD b_n_left 93 (.iconst 0) 1 94 := ⟨by decide +kernel, rfl⟩
theorem d_n_left_94 : DD b_n_left 94 (.istore 6) 2 96 := ⟨by decide +kernel, rfl⟩
theorem d_n_left_96 : DD b_n_left 96 (.iload 6) 2 98 := ⟨by decide +kernel, rfl⟩
theorem d_n_left_98 : DD b_n_left 98 (.iload_n 3) 1 99 := ⟨by decide +kernel, rfl⟩
theorem d_n_left_99 : DB b_n_left 99 (.if_icmp .ge 17) 17 102 116 := ⟨by decide +kernel, rfl, rfl⟩
theorem d_n_left_102 : DD b_n_left 102 (.aload_n 0) 1 103 := ⟨by decide +kernel, rfl⟩
theorem d_n_left_103 : DD b_n_left 103 (.getfield 9) 3 106 := ⟨by decide +kernel, rfl⟩
theorem d_n_left_106 : DD b_n_left 106 (.iload 6) 2 108 := ⟨by decide +kernel, rfl⟩
theorem d_n_left_108 : DD b_n_left 108 (.iconst 0) 1 109 := ⟨by decide +kernel, rfl⟩
theorem d_n_left_109 : DD b_n_left 109 .iastore 1 110 := ⟨by decide +kernel, rfl⟩
theorem d_n_left_110 : DD b_n_left 110 (.iinc 6 1) 3 113 := ⟨by decide +kernel, rfl⟩
theorem d_n_left_113 : DB b_n_left 113 (.goto (-17)) (-17) 116 96 := ⟨by decide +kernel, rfl, rfl⟩
theorem d_n_left_116 : DD b_n_left 116 (.aload_n 0) 1 117 := ⟨by decide +kernel, rfl⟩
theorem d_n_left_117 : DD b_n_left 117 (.iload 5) 2 119 := ⟨by decide +kernel, rfl⟩
theorem d_n_left_119 : DD b_n_left 119 (.iload_n 3) 1 120 := ⟨by decide +kernel, rfl⟩
theorem d_n_left_120 : DD b_n_left 120 .iadd 1 121 := ⟨by decide +kernel, rfl⟩
theorem d_n_left_121 : DD b_n_left 121 (.iconst 1) 1 122 := ⟨by decide +kernel, rfl⟩
theorem d_n_left_122 : DD b_n_left 122 .iadd 1 123 := ⟨by decide +kernel, rfl⟩
theorem d_n_left_123 : DD b_n_left 123 (.aload_n 1) 1 124 := ⟨by decide +kernel, rfl⟩
theorem d_n_left_124 : DD b_n_left 124 (.getfield 17) 3 127 := ⟨by decide +kernel, rfl⟩
theorem d_n_left_127 : DD b_n_left 127 (.invokevirtual 22) 3 130 := ⟨by decide +kernel, rfl⟩
theorem d_n_left_130 : DD b_n_left 130 .return_ 1 131 := ⟨by decide +kernel, rfl⟩
set_option maxRecDepth 20000 in
set_option maxHeartbeats 4000000 in
theorem c_n_left (l : Launch) (G : ZG) {t a by_ : Int} {σ : Mem} {K : Mem → Prop} (h : wp_n_left t a by_ σ K) (h_t : isN t) (h_a : isN a) (h_by_ : okI by_) : Ct l G y_n_left (.code y_n_left b_n_left 9 none) { frames := 1, cells := 0, slots := 0, locals := 22 } 0 0 0 [.ref (zA G t), .ref (zA G a), .int (iI by_)] σ (fun _ σ1 => K σ1) (fun _ _ => False) := by
  unfold wp_n_left at h
  refine Ct.ofZ [(0, .ref (zA G t)), (1, .ref (zA G a)), (2, .int (iI by_))] "LimbDesk$Num" (by decide) rfl (Nat.le_of_ble_eq_true rfl) rfl ?_
  intro E hR hlE C hr hX
  subst hlE
  have hroom_n_trim : 0 + 1 ≤ (zR E).frames ∧ 8 + (3 + 11) + 0 ≤ (zR E).locals ∧ 0 + 0 ≤ (zR E).cells ∧ 0 + 0 ≤ (zR E).slots := by rw [hR]; decide
  clear hR
  obtain ⟨Q, hQ⟩ : ∃ Q, Q = MQX G (zb E) 0 (fun _ σ1 => K σ1) (fun _ _ => False) (zs E) 0 0 0 0 := ⟨_, rfl⟩
  show Z E G 9 0 0 (MQX G (zb E) 0 (fun _ σ1 => K σ1) (fun _ _ => False) (zs E) 0 0 0 0) σ 0 [(0, .ref (zA G t)), (1, .ref (zA G a)), (2, .int (iI by_))] []
  rw [← hQ]
  refine z_iload_n C 2 d_n_left_0 rfl ?_
  refine z_bipush C d_n_left_1 (by decide) ?_
  obtain ⟨hc1, h⟩ := h
  refine z_idiv C d_n_left_3 hc1 ⟨by decide, by decide⟩ ?_
  refine z_namei (fun v3_2 e3 => ?_)
  have h := h v3_2 e3
  refine z_istore_n C [(3, .int (iI v3_2)), (0, .ref (zA G t)), (1, .ref (zA G a)), (2, .int (iI by_))] d_n_left_4 (by decide) rfl ?_
  refine z_iload_n C 3 d_n_left_5 rfl ?_
  refine z_bipush C d_n_left_6 (by decide) ?_
  refine z_irem C d_n_left_8 hc1 ⟨by decide, by decide⟩ ?_
  refine z_namei (fun v4_4 e5 => ?_)
  have h := h v4_4 e5
  have ok6 : okI v4_4 := by rw [e5]; exact (okI_mod (by decide) (by decide))
  refine z_istore C [(4, .int (iI v4_4)), (3, .int (iI v3_2)), (0, .ref (zA G t)), (1, .ref (zA G a)), (2, .int (iI by_))] d_n_left_9 (by decide) rfl ?_
  refine z_aload_n C 3 d_n_left_11 rfl ?_
  refine z_nget_n C d_n_left_12 k_32 h_a ?_
  refine z_namei (fun v5_7 e8 => ?_)
  have h := h v5_7 e8
  refine z_istore C [(5, .int (iI v5_7)), (4, .int (iI v4_4)), (3, .int (iI v3_2)), (0, .ref (zA G t)), (1, .ref (zA G a)), (2, .int (iI by_))] d_n_left_15 (by decide) rfl ?_
  refine z_aload_n C 3 d_n_left_17 rfl ?_
  refine z_nget_d C d_n_left_18 k_30 h_t ?_
  refine z_iload C 0 d_n_left_21 rfl ?_
  refine z_iload_n C 2 d_n_left_23 rfl ?_
  refine z_iadd C d_n_left_24 ?_
  refine z_iconst C d_n_left_25 ?_
  obtain ⟨hc9, h⟩ := h
  refine z_iastN C (600) d_n_left_26 (isN.A h_t) (ln_num h_t) hc9 ?_
  refine z_iload C 0 d_n_left_27 rfl ?_
  refine z_iconst C d_n_left_29 ?_
  refine z_isub C d_n_left_30 ?_
  refine z_namei (fun v6_10 e11 => ?_)
  have h := h v6_10 e11
  refine z_istore C [(6, .int (iI v6_10)), (5, .int (iI v5_7)), (4, .int (iI v4_4)), (3, .int (iI v3_2)), (0, .ref (zA G t)), (1, .ref (zA G a)), (2, .int (iI by_))] d_n_left_31 (by decide) rfl ?_
  obtain ⟨ok13, h⟩ := h
  refine z_sub [(0, .ref (zA G t)), (1, .ref (zA G a)), (3, .int (iI v3_2)), (4, .int (iI v4_4)), (5, .int (iI v5_7)), (6, .int (iI v6_10))] [4, 5, 3, 2, 1, 0] rfl ?_
  refine (Lo1.walk (P := fun v6_12 σ14 => okI v6_12 → Z E G 9 0 0 Q σ14 33 [(0, .ref (zA G t)), (1, .ref (zA G a)), (3, .int (iI v3_2)), (4, .int (iI v4_4)), (5, .int (iI v5_7)), (6, .int (iI v6_12))] []) ?_ h) ok13
  intro v6_12 σ14 again16 Hagain16 h ok15
  refine z_iload C 5 d_n_left_33 rfl ?_
  refine z_if_lt C d_n_left_35 ok15 (fun hb17 => ?_) (fun hb17 => ?_)
  · have h := h.1 hb17
    refine z_iconst C d_n_left_93 ?_
    refine z_istore C [(6, .int (iI 0)), (0, .ref (zA G t)), (1, .ref (zA G a)), (3, .int (iI v3_2)), (4, .int (iI v4_4)), (5, .int (iI v5_7))] d_n_left_94 (by decide) rfl ?_
    refine z_sub [(0, .ref (zA G t)), (1, .ref (zA G a)), (3, .int (iI v3_2)), (5, .int (iI v5_7)), (6, .int (iI 0))] [1, 2, 3, 5, 0] rfl ?_
    refine (Lo1.walk (P := fun v6_18 σ19 => okI v6_18 → Z E G 9 0 0 Q σ19 96 [(0, .ref (zA G t)), (1, .ref (zA G a)), (3, .int (iI v3_2)), (5, .int (iI v5_7)), (6, .int (iI v6_18))] []) ?_ h) (okI_lit rfl)
    intro v6_18 σ19 again21 Hagain21 h ok20
    refine z_iload C 4 d_n_left_96 rfl ?_
    refine z_iload_n C 2 d_n_left_98 rfl ?_
    obtain ⟨ok22, h⟩ := h
    refine z_icmp_ge C d_n_left_99 ok20 ok22 (fun hb23 => ?_) (fun hb23 => ?_)
    · have h := h.1 hb23
      refine z_aload_n C 0 d_n_left_116 rfl ?_
      refine z_iload C 3 d_n_left_117 rfl ?_
      refine z_iload_n C 2 d_n_left_119 rfl ?_
      refine z_iadd C d_n_left_120 ?_
      refine z_iconst C d_n_left_121 ?_
      refine z_iadd C d_n_left_122 ?_
      refine z_aload_n C 1 d_n_left_123 rfl ?_
      refine z_nget_sign C d_n_left_124 k_33 h_a ?_
      obtain ⟨ok24, h⟩ := h
      obtain ⟨ok25, h⟩ := h
      refine z_callV C "LimbDesk$Num" [.int (iI ((v5_7 + v3_2) + 1)), .int (iI (σ19 a 2))] [] 2 d_n_left_127 (c_n_trim (zl E) G h h_t ok24 ok25) k_168 k_165 k_167 k_s2 k_2 (by decide) (recv_N C h_t) (by decide +kernel) rfl rfl (Nat.le_of_ble_eq_true rfl) hroom_n_trim (fun _r σ26 ok27 hq => ?_) (fun _ _ hx => hx.elim)
      have h := hq
      subst hQ
      exact z_return C d_n_left_130.1 hr ⟨Nat.zero_le _, Nat.zero_le _⟩ h
    · have h := h.2 hb23
      refine z_aload_n C 0 d_n_left_102 rfl ?_
      refine z_nget_d C d_n_left_103 k_30 h_t ?_
      refine z_iload C 4 d_n_left_106 rfl ?_
      refine z_iconst C d_n_left_108 ?_
      obtain ⟨hc28, h⟩ := h
      refine z_iastN C (600) d_n_left_109 (isN.A h_t) (ln_num h_t) hc28 ?_
      refine z_iinc C 4 [(6, .int (iI (v6_18 + 1))), (0, .ref (zA G t)), (1, .ref (zA G a)), (3, .int (iI v3_2)), (5, .int (iI v5_7))] d_n_left_110 rfl (by decide) rfl ?_
      refine z_goto C d_n_left_113 ?_
      obtain ⟨ok29, h⟩ := h
      refine z_sub [(0, .ref (zA G t)), (1, .ref (zA G a)), (3, .int (iI v3_2)), (5, .int (iI v5_7)), (6, .int (iI (v6_18 + 1)))] [1, 2, 3, 4, 0] rfl ?_
      exact Hagain21 _ _ h ok29
  · have h := h.2 hb17
    refine z_aload_n C 1 d_n_left_38 rfl ?_
    refine z_nget_d C d_n_left_39 k_30 h_a ?_
    refine z_iload C 5 d_n_left_42 rfl ?_
    obtain ⟨hc30, h⟩ := h
    refine z_ialdN C (600) d_n_left_44 (isN.A h_a) (ln_num h_a) hc30 ?_
    obtain ⟨ok31, h⟩ := h
    refine z_i2l C d_n_left_45 ok31 ?_
    refine z_iload C 3 d_n_left_46 rfl ?_
    obtain ⟨hc32, h⟩ := h
    refine z_lshl C d_n_left_48 hc32 ?_
    refine z_namel (fun v7_33 e34 => ?_)
    have h := h v7_33 e34
    refine z_lstore C [(7, .long (lL v7_33)), (0, .ref (zA G t)), (1, .ref (zA G a)), (3, .int (iI v3_2)), (4, .int (iI v4_4)), (5, .int (iI v5_7)), (6, .int (iI v6_12))] d_n_left_49 (by decide) rfl ?_
    refine z_aload_n C 1 d_n_left_51 rfl ?_
    refine z_nget_d C d_n_left_52 k_30 h_t ?_
    refine z_iload C 6 d_n_left_55 rfl ?_
    refine z_iload_n C 3 d_n_left_57 rfl ?_
    refine z_iadd C d_n_left_58 ?_
    refine z_iconst C d_n_left_59 ?_
    refine z_iadd C d_n_left_60 ?_
    refine z_dup2 C d_n_left_61 rfl rfl ?_
    obtain ⟨hc35, h⟩ := h
    refine z_ialdN C (600) d_n_left_62 (isN.A h_t) (ln_num h_t) hc35 ?_
    refine z_lload C 0 d_n_left_63 rfl ?_
    refine z_bipush C d_n_left_65 (by decide) ?_
    refine z_lushrK C 16777216 d_n_left_67 (by decide) ⟨by decide, by decide⟩ ?_
    refine z_l2i C d_n_left_68 ?_
    refine z_ior C d_n_left_69 ?_
    refine z_iastN C (600) d_n_left_70 (isN.A h_t) (ln_num h_t) hc35 ?_
    refine z_aload_n C 1 d_n_left_71 rfl ?_
    refine z_nget_d C d_n_left_72 k_30 h_t ?_
    refine z_iload C 6 d_n_left_75 rfl ?_
    refine z_iload_n C 3 d_n_left_77 rfl ?_
    refine z_iadd C d_n_left_78 ?_
    refine z_lload C 0 d_n_left_79 rfl ?_
    refine z_ldc2 C d_n_left_81 k_164 (n := 16777215) (by decide) ?_
    refine z_lmask C 24 16777216 d_n_left_84 (by decide) (by decide) (by decide) ?_
    refine z_l2i C d_n_left_85 ?_
    obtain ⟨hc36, h⟩ := h
    refine z_iastN C (600) d_n_left_86 (isN.A h_t) (ln_num h_t) hc36 ?_
    refine z_iinc C 6 [(6, .int (iI (v6_12 + (-1)))), (7, .long (lL v7_33)), (0, .ref (zA G t)), (1, .ref (zA G a)), (3, .int (iI v3_2)), (4, .int (iI v4_4)), (5, .int (iI v5_7))] d_n_left_87 rfl (by decide) rfl ?_
    refine z_goto C d_n_left_90 ?_
    obtain ⟨ok37, h⟩ := h
    refine z_sub [(0, .ref (zA G t)), (1, .ref (zA G a)), (3, .int (iI v3_2)), (4, .int (iI v4_4)), (5, .int (iI v5_7)), (6, .int (iI (v6_12 + (-1))))] [2, 3, 4, 5, 6, 0] rfl ?_
    exact Hagain16 _ _ h ok37
theorem d_n_more_0 : DD b_n_more 0 (.iconst 0) 1 1 := ⟨by decide +kernel, rfl⟩
theorem d_n_more_1 : DD b_n_more 1 (.istore_n 2) 1 2 := ⟨by decide +kernel, rfl⟩
theorem d_n_more_2 : DD b_n_more 2 (.iload_n 2) 1 3 := ⟨by decide +kernel, rfl⟩
theorem d_n_more_3 : DD b_n_more 3 (.aload_n 0) 1 4 := ⟨by decide +kernel, rfl⟩
theorem d_n_more_4 : DD b_n_more 4 (.getfield 13) 3 7 := ⟨by decide +kernel, rfl⟩
theorem d_n_more_7 : DB b_n_more 7 (.if_icmp .ge 27) 27 10 34 := ⟨by decide +kernel, rfl, rfl⟩
theorem d_n_more_10 : DD b_n_more 10 (.aload_n 0) 1 11 := ⟨by decide +kernel, rfl⟩
theorem d_n_more_11 : DD b_n_more 11 (.getfield 9) 3 14 := ⟨by decide +kernel, rfl⟩
theorem d_n_more_14 : DD b_n_more 14 (.iload_n 2) 1 15 := ⟨by decide +kernel, rfl⟩
theorem d_n_more_15 : DD b_n_more 15 .iaload 1 16 := ⟨by decide +kernel, rfl⟩
theorem d_n_more_16 : DD b_n_more 16 (.ldc 50) 2 18 := ⟨by decide +kernel, rfl⟩
theorem d_n_more_18 : DB b_n_more 18 (.if_icmp .ne 16) 16 21 34 := ⟨by decide +kernel, rfl, rfl⟩
theorem d_n_more_21 : DD b_n_more 21 (.aload_n 0) 1 22 := ⟨by decide +kernel, rfl⟩
theorem d_n_more_22 : DD b_n_more 22 (.getfield 9) 3 25 := ⟨by decide +kernel, rfl⟩
theorem d_n_more_25 : DD b_n_more 25 (.iload_n 2) 1 26 := ⟨by decide +kernel, rfl⟩
theorem d_n_more_26 : DD b_n_more 26 (.iinc 2 1) 3 29 := ⟨by decide +kernel, rfl⟩
theorem d_n_more_29 : DD b_n_more 29 (.iconst 0) 1 30 := ⟨by decide +kernel, rfl⟩
theorem d_n_more_30 : DD b_n_more 30 .iastore 1 31 := ⟨by decide +kernel, rfl⟩
theorem d_n_more_31 : DB b_n_more 31 (.goto (-29)) (-29) 34 2 := ⟨by decide +kernel, rfl, rfl⟩
theorem d_n_more_34 : DD b_n_more 34 (.iload_n 2) 1 35 := ⟨by decide +kernel, rfl⟩
theorem d_n_more_35 : DD b_n_more 35 (.aload_n 0) 1 36 := ⟨by decide +kernel, rfl⟩
theorem d_n_more_36 : DD b_n_more 36 (.getfield 13) 3 39 := ⟨by decide +kernel, rfl⟩
theorem d_n_more_39 : DB b_n_more 39 (.if_icmp .ne 23) 23 42 62 := ⟨by decide +kernel, rfl, rfl⟩
theorem d_n_more_42 : DD b_n_more 42 (.aload_n 0) 1 43 := ⟨by decide +kernel, rfl⟩
theorem d_n_more_43 : DD b_n_more 43 (.getfield 9) 3 46 := ⟨by decide +kernel, rfl⟩
theorem d_n_more_46 : DD b_n_more 46 (.aload_n 0) 1 47 := ⟨by decide +kernel, rfl⟩
theorem d_n_more_47 : DD b_n_more 47 .dup 1 48 := ⟨by decide +kernel, rfl⟩
theorem d_n_more_48 : DD b_n_more 48 (.getfield 13) 3 51 := ⟨by decide +kernel, rfl⟩
theorem d_n_more_51 : DD b_n_more 51 .dup_x1 1 52 := ⟨by decide +kernel, rfl⟩
theorem d_n_more_52 : DD b_n_more 52 (.iconst 1) 1 53 := ⟨by decide +kernel, rfl⟩
theorem d_n_more_53 : DD b_n_more 53 .iadd 1 54 := ⟨by decide +kernel, rfl⟩
theorem d_n_more_54 : DD b_n_more 54 (.putfield 13) 3 57 := ⟨by decide +kernel, rfl⟩
theorem d_n_more_57 : DD b_n_more 57 (.iconst 1) 1 58 := ⟨by decide +kernel, rfl⟩
theorem d_n_more_58 : DD b_n_more 58 .iastore 1 59 := ⟨by decide +kernel, rfl⟩
theorem d_n_more_59 : DB b_n_more 59 (.goto 13) 13 62 72 := ⟨by decide +kernel, rfl, rfl⟩
theorem d_n_more_62 : DD b_n_more 62 (.aload_n 0) 1 63 := ⟨by decide +kernel, rfl⟩
theorem d_n_more_63 : DD b_n_more 63 (.getfield 9) 3 66 := ⟨by decide +kernel, rfl⟩
theorem d_n_more_66 : DD b_n_more 66 (.iload_n 2) 1 67 := ⟨by decide +kernel, rfl⟩
theorem d_n_more_67 : DD b_n_more 67 .dup2 1 68 := ⟨by decide +kernel, rfl⟩
theorem d_n_more_68 : DD b_n_more 68 .iaload 1 69 := ⟨by decide +kernel, rfl⟩
theorem d_n_more_69 : DD b_n_more 69 (.iconst 1) 1 70 := ⟨by decide +kernel, rfl⟩
theorem d_n_more_70 : DD b_n_more 70 .iadd 1 71 := ⟨by decide +kernel, rfl⟩
theorem d_n_more_71 : DD b_n_more 71 .iastore 1 72 := ⟨by decide +kernel, rfl⟩
theorem d_n_more_72 : DD b_n_more 72 (.aload_n 0) 1 73 := ⟨by decide +kernel, rfl⟩
theorem d_n_more_73 : DD b_n_more 73 (.iload_n 1) 1 74 := ⟨by decide +kernel, rfl⟩
theorem d_n_more_74 : DD b_n_more 74 (.putfield 17) 3 77 := ⟨by decide +kernel, rfl⟩
theorem d_n_more_77 : DD b_n_more 77 .return_ 1 78 := ⟨by decide +kernel, rfl⟩
set_option maxRecDepth 20000 in
set_option maxHeartbeats 4000000 in
theorem c_n_more (l : Launch) (G : ZG) {t s : Int} {σ : Mem} {K : Mem → Prop} (h : wp_n_more t s σ K) (h_t : isN t) (h_s : okI s) : Ct l G y_n_more (.code y_n_more b_n_more 3 none) { frames := 0, cells := 0, slots := 0, locals := 0 } 0 0 0 [.ref (zA G t), .int (iI s)] σ (fun _ σ1 => K σ1) (fun _ _ => False) := by
  unfold wp_n_more at h
  refine Ct.ofZ [(0, .ref (zA G t)), (1, .int (iI s))] "LimbDesk$Num" (by decide) rfl (Nat.le_of_ble_eq_true rfl) rfl ?_
  intro E hR hlE C hr hX
  subst hlE
  clear hR
  obtain ⟨Q, hQ⟩ : ∃ Q, Q = MQX G (zb E) 0 (fun _ σ1 => K σ1) (fun _ _ => False) (zs E) 0 0 0 0 := ⟨_, rfl⟩
  show Z E G 3 0 0 (MQX G (zb E) 0 (fun _ σ1 => K σ1) (fun _ _ => False) (zs E) 0 0 0 0) σ 0 [(0, .ref (zA G t)), (1, .int (iI s))] []
  rw [← hQ]
  refine z_iconst C d_n_more_0 ?_
  refine z_istore_n C [(2, .int (iI 0)), (0, .ref (zA G t)), (1, .int (iI s))] d_n_more_1 (by decide) rfl ?_
  refine z_sub [(0, .ref (zA G t)), (1, .int (iI s)), (2, .int (iI 0))] [1, 2, 0] rfl ?_
  refine (Lo1.walk (P := fun v2_1 σ2 => okI v2_1 → Z E G 3 0 0 Q σ2 2 [(0, .ref (zA G t)), (1, .int (iI s)), (2, .int (iI v2_1))] []) ?_ h) (okI_lit rfl)
  intro v2_1 σ2 again4 Hagain4 h ok3
  refine z_iload_n C 2 d_n_more_2 rfl ?_
  refine z_aload_n C 0 d_n_more_3 rfl ?_
  refine z_nget_n C d_n_more_4 k_32 h_t ?_
  obtain ⟨ok5, h⟩ := h
  refine Jq0.walk (Z E G 3 0 0 Q σ2 34 [(0, .ref (zA G t)), (1, .int (iI s)), (2, .int (iI v2_1))] []) h ?_ ?_
  · intro h
    refine z_iload_n C 2 d_n_more_34 rfl ?_
    refine z_aload_n C 0 d_n_more_35 rfl ?_
    refine z_nget_n C d_n_more_36 k_32 h_t ?_
    refine z_icmp_ne C d_n_more_39 ok3 ok5 (fun hb7 => ?_) (fun hb7 => ?_)
    · have h := h.1 hb7
      refine z_aload_n C 0 d_n_more_62 rfl ?_
      refine z_nget_d C d_n_more_63 k_30 h_t ?_
      refine z_iload_n C 2 d_n_more_66 rfl ?_
      refine z_dup2 C d_n_more_67 rfl rfl ?_
      obtain ⟨hc8, h⟩ := h
      refine z_ialdN C (600) d_n_more_68 (isN.A h_t) (ln_num h_t) hc8 ?_
      refine z_iconst C d_n_more_69 ?_
      refine z_iadd C d_n_more_70 ?_
      refine z_iastN C (600) d_n_more_71 (isN.A h_t) (ln_num h_t) hc8 ?_
      refine z_aload_n C 0 d_n_more_72 rfl ?_
      refine z_iload_n C 1 d_n_more_73 rfl ?_
      refine z_nput_sign C d_n_more_74 k_33 h_t ?_
      subst hQ
      exact z_return C d_n_more_77.1 hr ⟨Nat.zero_le _, Nat.zero_le _⟩ h
    · have h := h.2 hb7
      refine z_aload_n C 0 d_n_more_42 rfl ?_
      refine z_nget_d C d_n_more_43 k_30 h_t ?_
      refine z_aload_n C 0 d_n_more_46 rfl ?_
      refine z_dup C d_n_more_47 rfl ?_
      refine z_nget_n C d_n_more_48 k_32 h_t ?_
      refine z_dup_x1 C d_n_more_51 rfl rfl ?_
      refine z_iconst C d_n_more_52 ?_
      refine z_iadd C d_n_more_53 ?_
      refine z_nput_n C d_n_more_54 k_32 h_t ?_
      refine z_iconst C d_n_more_57 ?_
      obtain ⟨hc9, h⟩ := h
      refine z_iastN C (600) d_n_more_58 (isN.A h_t) (ln_num h_t) hc9 ?_
      refine z_goto C d_n_more_59 ?_
      refine z_aload_n C 0 d_n_more_72 rfl ?_
      refine z_iload_n C 1 d_n_more_73 rfl ?_
      refine z_nput_sign C d_n_more_74 k_33 h_t ?_
      subst hQ
      exact z_return C d_n_more_77.1 hr ⟨Nat.zero_le _, Nat.zero_le _⟩ h
  · intro J6 HJ6 h
    refine z_icmp_ge C d_n_more_7 ok3 ok5 (fun hb10 => ?_) (fun hb10 => ?_)
    · have h := h.1 hb10
      refine z_sub [(0, .ref (zA G t)), (1, .int (iI s)), (2, .int (iI v2_1))] [0, 1, 2] rfl ?_
      exact HJ6 h
    · have h := h.2 hb10
      refine z_aload_n C 0 d_n_more_10 rfl ?_
      refine z_nget_d C d_n_more_11 k_30 h_t ?_
      refine z_iload_n C 2 d_n_more_14 rfl ?_
      obtain ⟨hc11, h⟩ := h
      refine z_ialdN C (600) d_n_more_15 (isN.A h_t) (ln_num h_t) hc11 ?_
      refine z_ldc C d_n_more_16 k_261 (n := 16777215) (by decide) ?_
      obtain ⟨ok12, h⟩ := h
      refine z_icmp_ne C d_n_more_18 ok12 (okI_lit rfl) (fun hb13 => ?_) (fun hb13 => ?_)
      · have h := h.1 hb13
        refine z_sub [(0, .ref (zA G t)), (1, .int (iI s)), (2, .int (iI v2_1))] [0, 1, 2] rfl ?_
        exact HJ6 h
      · have h := h.2 hb13
        refine z_aload_n C 0 d_n_more_21 rfl ?_
        refine z_nget_d C d_n_more_22 k_30 h_t ?_
        refine z_iload_n C 2 d_n_more_25 rfl ?_
        refine z_iinc C 2 [(2, .int (iI (v2_1 + 1))), (0, .ref (zA G t)), (1, .int (iI s))] d_n_more_26 rfl (by decide) rfl ?_
        refine z_iconst C d_n_more_29 ?_
        refine z_iastN C (600) d_n_more_30 (isN.A h_t) (ln_num h_t) hc11 ?_
        refine z_goto C d_n_more_31 ?_
        obtain ⟨ok14, h⟩ := h
        refine z_sub [(0, .ref (zA G t)), (1, .int (iI s)), (2, .int (iI (v2_1 + 1)))] [1, 2, 0] rfl ?_
        exact Hagain4 _ _ h ok14
theorem d_n_right_0 : DD b_n_right 0 (.iload_n 2) 1 1 := ⟨by decide +kernel, rfl⟩
theorem d_n_right_1 : DD b_n_right 1 (.bipush 24) 2 3 := ⟨by decide +kernel, rfl⟩
theorem d_n_right_3 : DD b_n_right 3 .idiv 1 4 := ⟨by decide +kernel, rfl⟩
theorem d_n_right_4 : DD b_n_right 4 (.istore_n 3) 1 5 := ⟨by decide +kernel, rfl⟩
theorem d_n_right_5 : DD b_n_right 5 (.iload_n 2) 1 6 := ⟨by decide +kernel, rfl⟩
theorem d_n_right_6 : DD b_n_right 6 (.bipush 24) 2 8 := ⟨by decide +kernel, rfl⟩
theorem d_n_right_8 : DD b_n_right 8 .irem 1 9 := ⟨by decide +kernel, rfl⟩
theorem d_n_right_9 : DD b_n_right 9 (.istore 4) 2 11 := ⟨by decide +kernel, rfl⟩
theorem d_n_right_11 : DD b_n_right 11 (.aload_n 1) 1 12 := ⟨by decide +kernel, rfl⟩
theorem d_n_right_12 : DD b_n_right 12 (.getfield 13) 3 15 := ⟨by decide +kernel, rfl⟩
theorem d_n_right_15 : DD b_n_right 15 (.iload_n 3) 1 16 := ⟨by decide +kernel, rfl⟩
theorem d_n_right_16 : DD b_n_right 16 .isub 1 17 := ⟨by decide +kernel, rfl⟩
theorem d_n_right_17 : DD b_n_right 17 (.istore 5) 2 19 := ⟨by decide +kernel, rfl⟩
theorem d_n_right_19 : DD b_n_right 19 (.aload_n 1) 1 20 := ⟨by decide +kernel, rfl⟩
theorem d_n_right_20 : DD b_n_right 20 (.getfield 17) 3 23 := ⟨by decide +kernel, rfl⟩
theorem d_n_right_23 : DD b_n_right 23 (.istore 6) 2 25 := ⟨by decide +kernel, rfl⟩
theorem d_n_right_25 : DD b_n_right 25 (.iconst 0) 1 26 := ⟨by decide +kernel, rfl⟩
theorem d_n_right_26 : DD b_n_right 26 (.istore 7) 2 28 := ⟨by decide +kernel, rfl⟩
theorem d_n_right_28 : DD b_n_right 28 (.iconst 0) 1 29 := ⟨by decide +kernel, rfl⟩
theorem d_n_right_29 : DD b_n_right 29 (.istore 8) 2 31 := ⟨by decide +kernel, rfl⟩
theorem d_n_right_31 : DD b_n_right 31 (.iload 8) 2 33 := ⟨by decide +kernel, rfl⟩
theorem d_n_right_33 : DD b_n_right 33 (.iload_n 3) 1 34 := ⟨by decide +kernel, rfl⟩
theorem d_n_right_34 : DB b_n_right 34 (.if_icmp .ge 31) 31 37 65 := ⟨by decide +kernel, rfl, rfl⟩
theorem d_n_right_37 : DD b_n_right 37 (.iload 8) 2 39 := ⟨by decide +kernel, rfl⟩
theorem d_n_right_39 : DD b_n_right 39 (.aload_n 1) 1 40 := ⟨by decide +kernel, rfl⟩
theorem d_n_right_40 : DD b_n_right 40 (.getfield 13) 3 43 := ⟨by decide +kernel, rfl⟩
theorem d_n_right_43 : DB b_n_right 43 (.if_icmp .ge 22) 22 46 65 := ⟨by decide +kernel, rfl, rfl⟩
theorem d_n_right_46 : DD b_n_right 46 (.aload_n 1) 1 47 := ⟨by decide +kernel, rfl⟩
theorem d_n_right_47 : DD b_n_right 47 (.getfield 9) 3 50 := ⟨by decide +kernel, rfl⟩
theorem d_n_right_50 : DD b_n_right 50 (.iload 8) 2 52 := ⟨by decide +kernel, rfl⟩
theorem d_n_right_52 : DD b_n_right 52 .iaload 1 53 := ⟨by decide +kernel, rfl⟩
theorem d_n_right_53 : DB b_n_right 53 (.ifCond .eq 6) 6 56 59 := ⟨by decide +kernel, rfl, rfl⟩
theorem d_n_right_56 : DD b_n_right 56 (.iconst 1) 1 57 := ⟨by decide +kernel, rfl⟩
theorem d_n_right_57 : DD b_n_right 57 (.istore 7) 2 59 := ⟨by decide +kernel, rfl⟩
theorem d_n_right_59 : DD b_n_right 59 (.iinc 8 1) 3 62 := ⟨by decide +kernel, rfl⟩
theorem d_n_right_62 : DB b_n_right 62 (.goto (-31)) (-31) 65 31 := ⟨by decide +kernel, rfl, rfl⟩
theorem d_n_right_65 : DD b_n_right 65 (.iload 5) 2 67 := ⟨by decide +kernel, rfl⟩
theorem d_n_right_67 : DB b_n_right 67 (.ifCond .le 22) 22 70 89 := ⟨by decide +kernel, rfl, rfl⟩
theorem d_n_right_70 : DD b_n_right 70 (.aload_n 1) 1 71 := ⟨by decide +kernel, rfl⟩
theorem d_n_right_71 : DD b_n_right 71 (.getfield 9) 3 74 := ⟨by decide +kernel, rfl⟩
theorem d_n_right_74 : DD b_n_right 74 (.iload_n 3) 1 75 := ⟨by decide +kernel, rfl⟩
theorem d_n_right_75 : DD b_n_right 75 .iaload 1 76 := ⟨by decide +kernel, rfl⟩
theorem d_n_right_76 : DD b_n_right 76 (.iconst 1) 1 77 := ⟨by decide +kernel, rfl⟩
theorem d_n_right_77 : DD b_n_right 77 (.iload 4) 2 79 := ⟨by decide +kernel, rfl⟩
theorem d_n_right_79 : DD b_n_right 79 .ishl 1 80 := ⟨by decide +kernel, rfl⟩
theorem d_n_right_80 : DD b_n_right 80 (.iconst 1) 1 81 := ⟨by decide +kernel, rfl⟩
theorem d_n_right_81 : DD b_n_right 81 .isub 1 82 := ⟨by decide +kernel, rfl⟩
theorem d_n_right_82 : DD b_n_right 82 .iand 1 83 := ⟨by decide +kernel, rfl⟩
theorem d_n_right_83 : DB b_n_right 83 (.ifCond .eq 6) 6 86 89 := ⟨by decide +kernel, rfl, rfl⟩
theorem d_n_right_86 : DD b_n_right 86 (.iconst 1) 1 87 := ⟨by decide +kernel, rfl⟩
theorem d_n_right_87 : DD b_n_right 87 (.istore 7) 2 89 := ⟨by decide +kernel, rfl⟩
theorem d_n_right_89 : DD b_n_right 89 (.iconst 0) 1 90 := ⟨by decide +kernel, rfl⟩
theorem d_n_right_90 : DD b_n_right 90 (.istore 8) 2 92 := ⟨by decide +kernel, rfl⟩
theorem d_n_right_92 : DD b_n_right 92 (.iload 8) 2 94 := ⟨by decide +kernel, rfl⟩
theorem d_n_right_94 : DD b_n_right 94 (.iload 5) 2 96 := ⟨by decide +kernel, rfl⟩
theorem d_n_right_96 : DB b_n_right 96 (.if_icmp .ge 66) 66 99 162 := ⟨by decide +kernel, rfl, rfl⟩
theorem d_n_right_99 : DD b_n_right 99 (.aload_n 0) 1 100 := ⟨by decide +kernel, rfl⟩
theorem d_n_right_100 : DD b_n_right 100 (.getfield 9) 3 103 := ⟨by decide +kernel, rfl⟩
theorem d_n_right_103 : DD b_n_right 103 (.iload 8) 2 105 := ⟨by decide +kernel, rfl⟩
theorem d_n_right_105 : DD b_n_right 105 (.aload_n 1) 1 106 := ⟨by decide +kernel, rfl⟩
theorem d_n_right_106 : DD b_n_right 106 (.getfield 9) 3 109 := ⟨by decide +kernel, rfl⟩
theorem d_n_right_109 : DD b_n_right 109 (.iload_n 3) 1 110 := ⟨by decide +kernel, rfl⟩
theorem d_n_right_110 : DD b_n_right 110 (.iload 8) 2 112 := ⟨by decide +kernel, rfl⟩
theorem d_n_right_112 : DD b_n_right 112 .iadd 1 113 := ⟨by decide +kernel, rfl⟩
theorem d_n_right_113 : DD b_n_right 113 .iaload 1 114 := ⟨by decide +kernel, rfl⟩
theorem d_n_right_114 : DD b_n_right 114 (.iload 4) 2 116 := ⟨by decide +kernel, rfl⟩
theorem d_n_right_116 : DD b_n_right 116 .ishr 1 117 := ⟨by decide +kernel, rfl⟩
theorem d_n_right_117 : DD b_n_right 117 (.iload_n 3) 1 118 := ⟨by decide +kernel, rfl⟩
theorem d_n_right_118 : DD b_n_right 118 (.iload 8) 2 120 := ⟨by decide +kernel, rfl⟩
theorem d_n_right_120 : DD b_n_right 120 .iadd 1 121 := ⟨by decide +kernel, rfl⟩
theorem d_n_right_121 : DD b_n_right 121 (.iconst 1) 1 122 := ⟨by decide +kernel, rfl⟩
theorem d_n_right_122 : DD b_n_right 122 .iadd 1 123 := ⟨by decide +kernel, rfl⟩
theorem d_n_right_123 : DD b_n_right 123 (.aload_n 1) 1 124 := ⟨by decide +kernel, rfl⟩
theorem d_n_right_124 : DD b_n_right 124 (.getfield 13) 3 127 := ⟨by decide +kernel, rfl⟩
theorem d_n_right_127 : DB b_n_right 127 (.if_icmp .ge 26) 26 130 153 := ⟨by decide +kernel, rfl, rfl⟩
theorem d_n_right_130 : DD b_n_right 130 (.aload_n 1) 1 131 := ⟨by decide +kernel, rfl⟩
theorem d_n_right_131 : DD b_n_right 131 (.getfield 9) 3 134 := ⟨by decide +kernel, rfl⟩
theorem d_n_right_134 : DD b_n_right 134 (.iload_n 3) 1 135 := ⟨by decide +kernel, rfl⟩
theorem d_n_right_135 : DD b_n_right 135 (.iload 8) 2 137 := ⟨by decide +kernel, rfl⟩
theorem d_n_right_137 : DD b_n_right 137 .iadd 1 138 := ⟨by decide +kernel, rfl⟩
theorem d_n_right_138 : DD b_n_right 138 (.iconst 1) 1 139 := ⟨by decide +kernel, rfl⟩
theorem d_n_right_139 : DD b_n_right 139 .iadd 1 140 := ⟨by decide +kernel, rfl⟩
theorem d_n_right_140 : DD b_n_right 140 .iaload 1 141 := ⟨by decide +kernel, rfl⟩
theorem d_n_right_141 : DD b_n_right 141 (.bipush 24) 2 143 := ⟨by decide +kernel, rfl⟩
theorem d_n_right_143 : DD b_n_right 143 (.iload 4) 2 145 := ⟨by decide +kernel, rfl⟩
theorem d_n_right_145 : DD b_n_right 145 .isub 1 146 := ⟨by decide +kernel, rfl⟩
theorem d_n_right_146 : DD b_n_right 146 .ishl 1 147 := ⟨by decide +kernel, rfl⟩
theorem d_n_right_147 : DD b_n_right 147 (.ldc 50) 2 149 := ⟨by decide +kernel, rfl⟩
theorem d_n_right_149 : DD b_n_right 149 .iand 1 150 := ⟨by decide +kernel, rfl⟩
theorem d_n_right_150 : DB b_n_right 150 (.goto 4) 4 153 154 := ⟨by decide +kernel, rfl, rfl⟩
theorem d_n_right_153 : DD b_n_right 153 (.iconst 0) 1 154 := ⟨by decide +kernel, rfl⟩
theorem d_n_right_154 : DD b_n_right 154 .ior 1 155 := ⟨by decide +kernel, rfl⟩
theorem d_n_right_155 : DD b_n_right 155 .iastore 1 156 := ⟨by decide +kernel, rfl⟩
theorem d_n_right_156 : DD b_n_right 156 (.iinc 8 1) 3 159 := ⟨by decide +kernel, rfl⟩
theorem d_n_right_159 : DB b_n_right 159 (.goto (-67)) (-67) 162 92 := ⟨by decide +kernel, rfl, rfl⟩
theorem d_n_right_162 : DD b_n_right 162 (.aload_n 0) 1 163 := ⟨by decide +kernel, rfl⟩
theorem d_n_right_163 : DD b_n_right 163 (.iload 5) 2 165 := ⟨by decide +kernel, rfl⟩
theorem d_n_right_165 : DD b_n_right 165 (.iconst 0) 1 166 := ⟨by decide +kernel, rfl⟩
theorem d_n_right_166 : DD b_n_right 166 (.invokestatic 47) 3 169 := ⟨by decide +kernel, rfl⟩
theorem d_n_right_169 : DD b_n_right 169 (.iload 6) 2 171 := ⟨by decide +kernel, rfl⟩
theorem d_n_right_171 : DD b_n_right 171 (.invokevirtual 22) 3 174 := ⟨by decide +kernel, rfl⟩
theorem d_n_right_174 : DD b_n_right 174 (.iload 6) 2 176 := ⟨by decide +kernel, rfl⟩
theorem d_n_right_176 : DB b_n_right 176 (.ifCond .ge 13) 13 179 189 := ⟨by decide +kernel, rfl, rfl⟩
theorem d_n_right_179 : DD b_n_right 179 (.iload 7) 2 181 := ⟨by decide +kernel, rfl⟩
theorem d_n_right_181 : DB b_n_right 181 (.ifCond .eq 8) 8 184 189 := ⟨by decide +kernel, rfl, rfl⟩
theorem d_n_right_184 : DD b_n_right 184 (.aload_n 0) 1 185 := ⟨by decide +kernel, rfl⟩
theorem d_n_right_185 : DD b_n_right 185 (.iconst (-1)) 1 186 := ⟨by decide +kernel, rfl⟩
theorem d_n_right_186 : DD b_n_right 186 (.invokevirtual 55) 3 189 := ⟨by decide +kernel, rfl⟩
theorem d_n_right_189 : DD b_n_right 189 .return_ 1 190 := ⟨by decide +kernel, rfl⟩
set_option maxRecDepth 20000 in
set_option maxHeartbeats 4000000 in
theorem c_n_right (l : Launch) (G : ZG) {t a by_ : Int} {σ : Mem} {K : Mem → Prop} (h : wp_n_right t a by_ σ K) (h_t : isN t) (h_a : isN a) (h_by_ : okI by_) : Ct l G y_n_right (.code y_n_right b_n_right 9 none) { frames := 1, cells := 0, slots := 0, locals := 22 } 0 0 0 [.ref (zA G t), .ref (zA G a), .int (iI by_)] σ (fun _ σ1 => K σ1) (fun _ _ => False) := by
  unfold wp_n_right at h
  refine Ct.ofZ [(0, .ref (zA G t)), (1, .ref (zA G a)), (2, .int (iI by_))] "LimbDesk$Num" (by decide) rfl (Nat.le_of_ble_eq_true rfl) rfl ?_
  intro E hR hlE C hr hX
  subst hlE
  have hroom_math : 1 ≤ (zR E).frames ∧ 8 + 13 ≤ (zR E).locals ∧ 0 ≤ (zR E).cells ∧ 0 ≤ (zR E).slots := by rw [hR]; decide
  have hroom_n_more : 0 + 1 ≤ (zR E).frames ∧ 8 + (3 + 11) + 0 ≤ (zR E).locals ∧ 0 + 0 ≤ (zR E).cells ∧ 0 + 0 ≤ (zR E).slots := by rw [hR]; decide
  have hroom_n_trim : 0 + 1 ≤ (zR E).frames ∧ 8 + (3 + 11) + 0 ≤ (zR E).locals ∧ 0 + 0 ≤ (zR E).cells ∧ 0 + 0 ≤ (zR E).slots := by rw [hR]; decide
  clear hR
  obtain ⟨Q, hQ⟩ : ∃ Q, Q = MQX G (zb E) 0 (fun _ σ1 => K σ1) (fun _ _ => False) (zs E) 0 0 0 0 := ⟨_, rfl⟩
  show Z E G 9 0 0 (MQX G (zb E) 0 (fun _ σ1 => K σ1) (fun _ _ => False) (zs E) 0 0 0 0) σ 0 [(0, .ref (zA G t)), (1, .ref (zA G a)), (2, .int (iI by_))] []
  rw [← hQ]
  refine z_iload_n C 2 d_n_right_0 rfl ?_
  refine z_bipush C d_n_right_1 (by decide) ?_
  obtain ⟨hc1, h⟩ := h
  refine z_idiv C d_n_right_3 hc1 ⟨by decide, by decide⟩ ?_
  refine z_namei (fun v3_2 e3 => ?_)
  have h := h v3_2 e3
  refine z_istore_n C [(3, .int (iI v3_2)), (0, .ref (zA G t)), (1, .ref (zA G a)), (2, .int (iI by_))] d_n_right_4 (by decide) rfl ?_
  refine z_iload_n C 3 d_n_right_5 rfl ?_
  refine z_bipush C d_n_right_6 (by decide) ?_
  refine z_irem C d_n_right_8 hc1 ⟨by decide, by decide⟩ ?_
  refine z_namei (fun v4_4 e5 => ?_)
  have h := h v4_4 e5
  have ok6 : okI v4_4 := by rw [e5]; exact (okI_mod (by decide) (by decide))
  refine z_istore C [(4, .int (iI v4_4)), (3, .int (iI v3_2)), (0, .ref (zA G t)), (1, .ref (zA G a)), (2, .int (iI by_))] d_n_right_9 (by decide) rfl ?_
  refine z_aload_n C 3 d_n_right_11 rfl ?_
  refine z_nget_n C d_n_right_12 k_32 h_a ?_
  refine z_iload_n C 1 d_n_right_15 rfl ?_
  refine z_isub C d_n_right_16 ?_
  refine z_namei (fun v5_7 e8 => ?_)
  have h := h v5_7 e8
  refine z_istore C [(5, .int (iI v5_7)), (4, .int (iI v4_4)), (3, .int (iI v3_2)), (0, .ref (zA G t)), (1, .ref (zA G a)), (2, .int (iI by_))] d_n_right_17 (by decide) rfl ?_
  refine z_aload_n C 4 d_n_right_19 rfl ?_
  refine z_nget_sign C d_n_right_20 k_33 h_a ?_
  refine z_namei (fun v6_9 e10 => ?_)
  have h := h v6_9 e10
  refine z_istore C [(6, .int (iI v6_9)), (5, .int (iI v5_7)), (4, .int (iI v4_4)), (3, .int (iI v3_2)), (0, .ref (zA G t)), (1, .ref (zA G a)), (2, .int (iI by_))] d_n_right_23 (by decide) rfl ?_
  refine z_iconst C d_n_right_25 ?_
  refine z_istore C [(7, .int (iI 0)), (6, .int (iI v6_9)), (5, .int (iI v5_7)), (4, .int (iI v4_4)), (3, .int (iI v3_2)), (0, .ref (zA G t)), (1, .ref (zA G a)), (2, .int (iI by_))] d_n_right_26 (by decide) rfl ?_
  refine z_iconst C d_n_right_28 ?_
  refine z_istore C [(8, .int (iI 0)), (7, .int (iI 0)), (6, .int (iI v6_9)), (5, .int (iI v5_7)), (4, .int (iI v4_4)), (3, .int (iI v3_2)), (0, .ref (zA G t)), (1, .ref (zA G a)), (2, .int (iI by_))] d_n_right_29 (by decide) rfl ?_
  refine z_sub [(0, .ref (zA G t)), (1, .ref (zA G a)), (3, .int (iI v3_2)), (4, .int (iI v4_4)), (5, .int (iI v5_7)), (6, .int (iI v6_9)), (7, .int (iI 0)), (8, .int (iI 0))] [6, 7, 5, 4, 3, 2, 1, 0] rfl ?_
  refine (Lq2.walk (P := fun v7_11 v8_12 => okI v7_11 → okI v8_12 → Z E G 9 0 0 Q σ 31 [(0, .ref (zA G t)), (1, .ref (zA G a)), (3, .int (iI v3_2)), (4, .int (iI v4_4)), (5, .int (iI v5_7)), (6, .int (iI v6_9)), (7, .int (iI v7_11)), (8, .int (iI v8_12))] []) ?_ h) (okI_lit rfl) (okI_lit rfl)
  intro v7_11 v8_12 again15 Hagain15 h ok13 ok14
  refine z_iload C 7 d_n_right_31 rfl ?_
  refine z_iload_n C 2 d_n_right_33 rfl ?_
  obtain ⟨ok16, h⟩ := h
  refine Jq0.walk (Z E G 9 0 0 Q σ 65 [(0, .ref (zA G t)), (1, .ref (zA G a)), (3, .int (iI v3_2)), (4, .int (iI v4_4)), (5, .int (iI v5_7)), (6, .int (iI v6_9)), (7, .int (iI v7_11))] []) h ?_ ?_
  · intro h
    refine z_iload C 4 d_n_right_65 rfl ?_
    obtain ⟨ok18, h⟩ := h
    refine Jq1.walk (fun v7_19 => okI v7_19 → Z E G 9 0 0 Q σ 89 [(0, .ref (zA G t)), (1, .ref (zA G a)), (3, .int (iI v3_2)), (4, .int (iI v4_4)), (5, .int (iI v5_7)), (6, .int (iI v6_9)), (7, .int (iI v7_19))] []) h ?_ ?_
    · intro v7_19 h ok20
      refine z_iconst C d_n_right_89 ?_
      refine z_istore C [(8, .int (iI 0)), (0, .ref (zA G t)), (1, .ref (zA G a)), (3, .int (iI v3_2)), (4, .int (iI v4_4)), (5, .int (iI v5_7)), (6, .int (iI v6_9)), (7, .int (iI v7_19))] d_n_right_90 (by decide) rfl ?_
      refine z_sub [(0, .ref (zA G t)), (1, .ref (zA G a)), (3, .int (iI v3_2)), (4, .int (iI v4_4)), (5, .int (iI v5_7)), (6, .int (iI v6_9)), (7, .int (iI v7_19)), (8, .int (iI 0))] [1, 2, 3, 4, 5, 6, 7, 0] rfl ?_
      refine (Lo1.walk (P := fun v8_22 σ23 => okI v8_22 → Z E G 9 0 0 Q σ23 92 [(0, .ref (zA G t)), (1, .ref (zA G a)), (3, .int (iI v3_2)), (4, .int (iI v4_4)), (5, .int (iI v5_7)), (6, .int (iI v6_9)), (7, .int (iI v7_19)), (8, .int (iI v8_22))] []) ?_ h) (okI_lit rfl)
      intro v8_22 σ23 again25 Hagain25 h ok24
      refine z_iload C 7 d_n_right_92 rfl ?_
      refine z_iload C 4 d_n_right_94 rfl ?_
      refine z_icmp_ge C d_n_right_96 ok24 ok18 (fun hb26 => ?_) (fun hb26 => ?_)
      · have h := h.1 hb26
        refine z_aload_n C 0 d_n_right_162 rfl ?_
        refine z_iload C 4 d_n_right_163 rfl ?_
        refine z_iconst C d_n_right_165 ?_
        refine z_max C d_n_right_166 k_303 k_304 k_13 k_305 ok18 (okI_lit rfl) (Nat.le_of_ble_eq_true rfl) hroom_math ?_
        refine z_iload C 5 d_n_right_169 rfl ?_
        obtain ⟨ok27, h⟩ := h
        refine z_callV C "LimbDesk$Num" [.int (iI (if v5_7 < 0 then 0 else v5_7)), .int (iI v6_9)] [] 2 d_n_right_171 (c_n_trim (zl E) G h h_t (okI_max ok18 (okI_lit rfl)) ok27) k_168 k_165 k_167 k_s2 k_2 (by decide) (recv_N C h_t) (by decide +kernel) rfl rfl (Nat.le_of_ble_eq_true rfl) hroom_n_trim (fun _r σ28 ok29 hq => ?_) (fun _ _ hx => hx.elim)
        have h := hq
        refine z_iload C 5 d_n_right_174 rfl ?_
        refine z_if_ge C d_n_right_176 ok27 (fun hb30 => ?_) (fun hb30 => ?_)
        · have h := h.1 hb30
          subst hQ
          exact z_return C d_n_right_189.1 hr ⟨Nat.zero_le _, Nat.zero_le _⟩ h
        · have h := h.2 hb30
          refine z_iload C 6 d_n_right_179 rfl ?_
          refine z_if_eq C d_n_right_181 ok20 (fun hb31 => ?_) (fun hb31 => ?_)
          · have h := h.1 hb31
            subst hQ
            exact z_return C d_n_right_189.1 hr ⟨Nat.zero_le _, Nat.zero_le _⟩ h
          · have h := h.2 hb31
            refine z_aload_n C 0 d_n_right_184 rfl ?_
            refine z_iconst C d_n_right_185 ?_
            refine z_callV C "LimbDesk$Num" [.int (iI (-1))] [] 1 d_n_right_186 (c_n_more (zl E) G h h_t (okI_lit rfl)) k_348 k_345 k_347 k_s5 k_2 (by decide) (recv_N C h_t) (by decide +kernel) rfl rfl (Nat.le_of_ble_eq_true rfl) hroom_n_more (fun _r σ32 ok33 hq => ?_) (fun _ _ hx => hx.elim)
            have h := hq
            subst hQ
            exact z_return C d_n_right_189.1 hr ⟨Nat.zero_le _, Nat.zero_le _⟩ h
      · have h := h.2 hb26
        refine z_aload_n C 0 d_n_right_99 rfl ?_
        refine z_nget_d C d_n_right_100 k_30 h_t ?_
        refine z_iload C 7 d_n_right_103 rfl ?_
        refine z_aload_n C 1 d_n_right_105 rfl ?_
        refine z_nget_d C d_n_right_106 k_30 h_a ?_
        refine z_iload_n C 2 d_n_right_109 rfl ?_
        refine z_iload C 7 d_n_right_110 rfl ?_
        refine z_iadd C d_n_right_112 ?_
        obtain ⟨hc34, h⟩ := h
        refine z_ialdN C (600) d_n_right_113 (isN.A h_a) (ln_num h_a) hc34 ?_
        refine z_iload C 3 d_n_right_114 rfl ?_
        obtain ⟨hc35, h⟩ := h
        obtain ⟨ok36, h⟩ := h
        refine z_ishr C d_n_right_116 ok36 hc35 ?_
        refine z_iload_n C 2 d_n_right_117 rfl ?_
        refine z_iload C 7 d_n_right_118 rfl ?_
        refine z_iadd C d_n_right_120 ?_
        refine z_iconst C d_n_right_121 ?_
        refine z_iadd C d_n_right_122 ?_
        refine z_aload_n C 1 d_n_right_123 rfl ?_
        refine z_nget_n C d_n_right_124 k_32 h_a ?_
        obtain ⟨ok37, h⟩ := h
        obtain ⟨ok38, h⟩ := h
        obtain ⟨ha44, h⟩ := h
        have hj : ∀ s42 : Int, s42 = (if (σ23 a 1) ≤ ((v3_2 + v8_22) + 1) then 0 else (((σ23 (21 + a) ((v3_2 + v8_22) + 1)) * 2 ^ ((24 - v4_4)).toNat) % 16777216)) → Z E G 9 0 0 Q σ23 154 [(0, .ref (zA G t)), (1, .ref (zA G a)), (3, .int (iI v3_2)), (4, .int (iI v4_4)), (5, .int (iI v5_7)), (6, .int (iI v6_9)), (7, .int (iI v7_19)), (8, .int (iI v8_22))] [.int (iI s42), .int (iI ((σ23 (21 + a) (v3_2 + v8_22)) / 2 ^ (v4_4).toNat)), .int (iI v8_22), .ref (zA G (21 + t))] := by
          intro s42 e43
          have h := h s42 e43
          refine z_ior C d_n_right_154 ?_
          obtain ⟨hc45, h⟩ := h
          refine z_iastN C (600) d_n_right_155 (isN.A h_t) (ln_num h_t) hc45 ?_
          refine z_iinc C 7 [(8, .int (iI (v8_22 + 1))), (0, .ref (zA G t)), (1, .ref (zA G a)), (3, .int (iI v3_2)), (4, .int (iI v4_4)), (5, .int (iI v5_7)), (6, .int (iI v6_9)), (7, .int (iI v7_19))] d_n_right_156 rfl (by decide) rfl ?_
          refine z_goto C d_n_right_159 ?_
          obtain ⟨ok46, h⟩ := h
          refine z_sub [(0, .ref (zA G t)), (1, .ref (zA G a)), (3, .int (iI v3_2)), (4, .int (iI v4_4)), (5, .int (iI v5_7)), (6, .int (iI v6_9)), (7, .int (iI v7_19)), (8, .int (iI (v8_22 + 1)))] [1, 2, 3, 4, 5, 6, 7, 0] rfl ?_
          exact Hagain25 _ _ h ok46
        clear h
        refine z_icmp_ge C d_n_right_127 ok37 ok38 (fun hb39 => ?_) (fun hb39 => ?_)
        · refine z_iconst C d_n_right_153 ?_
          exact hj _ (if_pos hb39).symm
        · have h := ha44 hb39
          refine z_aload_n C 1 d_n_right_130 rfl ?_
          refine z_nget_d C d_n_right_131 k_30 h_a ?_
          refine z_iload_n C 2 d_n_right_134 rfl ?_
          refine z_iload C 7 d_n_right_135 rfl ?_
          refine z_iadd C d_n_right_137 ?_
          refine z_iconst C d_n_right_138 ?_
          refine z_iadd C d_n_right_139 ?_
          obtain ⟨hc40, h⟩ := h
          refine z_ialdN C (600) d_n_right_140 (isN.A h_a) (ln_num h_a) hc40 ?_
          refine z_bipush C d_n_right_141 (by decide) ?_
          refine z_iload C 3 d_n_right_143 rfl ?_
          refine z_isub C d_n_right_145 ?_
          obtain ⟨hc41, h⟩ := h
          refine z_ishl C d_n_right_146 hc41 ?_
          refine z_ldc C d_n_right_147 k_261 (n := 16777215) (by decide) ?_
          refine z_imask C 24 16777216 d_n_right_149 (by decide) (by decide) (by decide) ?_
          refine z_goto C d_n_right_150 ?_
          exact hj _ (if_neg (Int.not_le.mpr hb39)).symm
    · intro J21 HJ21 h
      refine z_if_le C d_n_right_67 ok18 (fun hb47 => ?_) (fun hb47 => ?_)
      · have h := h.1 hb47
        refine z_sub [(0, .ref (zA G t)), (1, .ref (zA G a)), (3, .int (iI v3_2)), (4, .int (iI v4_4)), (5, .int (iI v5_7)), (6, .int (iI v6_9)), (7, .int (iI v7_11))] [0, 1, 2, 3, 4, 5, 6] rfl ?_
        exact HJ21 _ h ok13
      · have h := h.2 hb47
        refine z_aload_n C 1 d_n_right_70 rfl ?_
        refine z_nget_d C d_n_right_71 k_30 h_a ?_
        refine z_iload_n C 2 d_n_right_74 rfl ?_
        obtain ⟨hc48, h⟩ := h
        refine z_ialdN C (600) d_n_right_75 (isN.A h_a) (ln_num h_a) hc48 ?_
        refine z_iconst C d_n_right_76 ?_
        refine z_iload C 3 d_n_right_77 rfl ?_
        obtain ⟨hc49, h⟩ := h
        refine z_ishl C d_n_right_79 hc49 ?_
        refine z_iconst C d_n_right_80 ?_
        refine z_isub C d_n_right_81 ?_
        refine z_iand C d_n_right_82 ?_
        refine z_if_eq C d_n_right_83 (okI_an _ _) (fun hb50 => ?_) (fun hb50 => ?_)
        · have h := h.1 hb50
          refine z_sub [(0, .ref (zA G t)), (1, .ref (zA G a)), (3, .int (iI v3_2)), (4, .int (iI v4_4)), (5, .int (iI v5_7)), (6, .int (iI v6_9)), (7, .int (iI v7_11))] [0, 1, 2, 3, 4, 5, 6] rfl ?_
          exact HJ21 _ h ok13
        · have h := h.2 hb50
          refine z_iconst C d_n_right_86 ?_
          refine z_istore C [(7, .int (iI 1)), (0, .ref (zA G t)), (1, .ref (zA G a)), (3, .int (iI v3_2)), (4, .int (iI v4_4)), (5, .int (iI v5_7)), (6, .int (iI v6_9))] d_n_right_87 (by decide) rfl ?_
          refine z_sub [(0, .ref (zA G t)), (1, .ref (zA G a)), (3, .int (iI v3_2)), (4, .int (iI v4_4)), (5, .int (iI v5_7)), (6, .int (iI v6_9)), (7, .int (iI 1))] [1, 2, 3, 4, 5, 6, 0] rfl ?_
          exact HJ21 _ h (okI_lit rfl)
  · intro J17 HJ17 h
    refine z_icmp_ge C d_n_right_34 ok14 ok16 (fun hb51 => ?_) (fun hb51 => ?_)
    · have h := h.1 hb51
      refine z_sub [(0, .ref (zA G t)), (1, .ref (zA G a)), (3, .int (iI v3_2)), (4, .int (iI v4_4)), (5, .int (iI v5_7)), (6, .int (iI v6_9)), (7, .int (iI v7_11))] [0, 1, 2, 3, 4, 5, 6] rfl ?_
      exact HJ17 h
    · have h := h.2 hb51
      refine z_iload C 7 d_n_right_37 rfl ?_
      refine z_aload_n C 1 d_n_right_39 rfl ?_
      refine z_nget_n C d_n_right_40 k_32 h_a ?_
      obtain ⟨ok52, h⟩ := h
      refine z_icmp_ge C d_n_right_43 ok14 ok52 (fun hb53 => ?_) (fun hb53 => ?_)
      · have h := h.1 hb53
        refine z_sub [(0, .ref (zA G t)), (1, .ref (zA G a)), (3, .int (iI v3_2)), (4, .int (iI v4_4)), (5, .int (iI v5_7)), (6, .int (iI v6_9)), (7, .int (iI v7_11))] [0, 1, 2, 3, 4, 5, 6] rfl ?_
        exact HJ17 h
      · have h := h.2 hb53
        refine z_aload_n C 1 d_n_right_46 rfl ?_
        refine z_nget_d C d_n_right_47 k_30 h_a ?_
        refine z_iload C 7 d_n_right_50 rfl ?_
        obtain ⟨hc54, h⟩ := h
        refine z_ialdN C (600) d_n_right_52 (isN.A h_a) (ln_num h_a) hc54 ?_
        obtain ⟨ok55, h⟩ := h
        refine Jq1.walk (fun v7_56 => okI v7_56 → Z E G 9 0 0 Q σ 59 [(0, .ref (zA G t)), (1, .ref (zA G a)), (3, .int (iI v3_2)), (4, .int (iI v4_4)), (5, .int (iI v5_7)), (6, .int (iI v6_9)), (7, .int (iI v7_56)), (8, .int (iI v8_12))] []) h ?_ ?_
        · intro v7_56 h ok57
          refine z_iinc C 7 [(8, .int (iI (v8_12 + 1))), (0, .ref (zA G t)), (1, .ref (zA G a)), (3, .int (iI v3_2)), (4, .int (iI v4_4)), (5, .int (iI v5_7)), (6, .int (iI v6_9)), (7, .int (iI v7_56))] d_n_right_59 rfl (by decide) rfl ?_
          refine z_goto C d_n_right_62 ?_
          obtain ⟨ok59, h⟩ := h
          refine z_sub [(0, .ref (zA G t)), (1, .ref (zA G a)), (3, .int (iI v3_2)), (4, .int (iI v4_4)), (5, .int (iI v5_7)), (6, .int (iI v6_9)), (7, .int (iI v7_56)), (8, .int (iI (v8_12 + 1)))] [1, 2, 3, 4, 5, 6, 7, 0] rfl ?_
          exact Hagain15 _ _ h ok57 ok59
        · intro J58 HJ58 h
          refine z_if_eq C d_n_right_53 ok55 (fun hb60 => ?_) (fun hb60 => ?_)
          · have h := h.1 hb60
            refine z_sub [(0, .ref (zA G t)), (1, .ref (zA G a)), (3, .int (iI v3_2)), (4, .int (iI v4_4)), (5, .int (iI v5_7)), (6, .int (iI v6_9)), (7, .int (iI v7_11)), (8, .int (iI v8_12))] [0, 1, 2, 3, 4, 5, 6, 7] rfl ?_
            exact HJ58 _ h ok13
          · have h := h.2 hb60
            refine z_iconst C d_n_right_56 ?_
            refine z_istore C [(7, .int (iI 1)), (0, .ref (zA G t)), (1, .ref (zA G a)), (3, .int (iI v3_2)), (4, .int (iI v4_4)), (5, .int (iI v5_7)), (6, .int (iI v6_9)), (8, .int (iI v8_12))] d_n_right_57 (by decide) rfl ?_
            refine z_sub [(0, .ref (zA G t)), (1, .ref (zA G a)), (3, .int (iI v3_2)), (4, .int (iI v4_4)), (5, .int (iI v5_7)), (6, .int (iI v6_9)), (7, .int (iI 1)), (8, .int (iI v8_12))] [1, 2, 3, 4, 5, 6, 0, 7] rfl ?_
            exact HJ58 _ h (okI_lit rfl)
