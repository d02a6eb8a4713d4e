/-! Walks, printed by gen/gen.py. -/
theorem d_m_power_0 : DD b_m_power 0 (.aload_n 0) 1 1 := ⟨by decide +kernel, rfl⟩
theorem d_m_power_1 : DD b_m_power 1 (.iconst 0) 1 2 := ⟨by decide +kernel, rfl⟩
theorem d_m_power_2 : DD b_m_power 2 (.putfield 49) 3 5 := ⟨by decide +kernel, rfl⟩
theorem d_m_power_5 : DD b_m_power 5 (.aload_n 0) 1 6 := ⟨by decide +kernel, rfl⟩
theorem d_m_power_6 : DD b_m_power 6 (.iload_n 1) 1 7 := ⟨by decide +kernel, rfl⟩
theorem d_m_power_7 : DD b_m_power 7 (.invokestatic 83) 3 10 := ⟨by decide +kernel, rfl⟩
theorem d_m_power_10 : DB b_m_power 10 (.ifCond .eq 14) 14 13 24 := ⟨by decide +kernel, rfl, rfl⟩
theorem d_m_power_13 : DD b_m_power 13 (.iload_n 2) 1 14 := ⟨by decide +kernel, rfl⟩
theorem d_m_power_14 : DD b_m_power 14 (.invokestatic 83) 3 17 := ⟨by decide +kernel, rfl⟩
theorem d_m_power_17 : DB b_m_power 17 (.ifCond .eq 7) 7 20 24 := ⟨by decide +kernel, rfl, rfl⟩
theorem d_m_power_20 : DD b_m_power 20 (.iload_n 3) 1 21 := ⟨by decide +kernel, rfl⟩
theorem d_m_power_21 : DB b_m_power 21 (.ifCond .ge 7) 7 24 28 := ⟨by decide +kernel, rfl, rfl⟩
theorem d_m_power_24 : DD b_m_power 24 (.iconst 1) 1 25 := ⟨by decide +kernel, rfl⟩
theorem d_m_power_25 : DB b_m_power 25 (.goto 4) 4 28 29 := ⟨by decide +kernel, rfl, rfl⟩
theorem d_m_power_28 : DD b_m_power 28 (.iconst 0) 1 29 := ⟨by decide +kernel, rfl⟩
theorem d_m_power_29 : DD b_m_power 29 (.iconst 1) 1 30 := ⟨by decide +kernel, rfl⟩
theorem d_m_power_30 : DD b_m_power 30 (.invokevirtual 79) 3 33 := ⟨by decide +kernel, rfl⟩
theorem d_m_power_33 : DB b_m_power 33 (.ifCond .eq 5) 5 36 38 := ⟨by decide +kernel, rfl, rfl⟩
theorem d_m_power_36 : DD b_m_power 36 (.iconst 0) 1 37 := ⟨by decide +kernel, rfl⟩
theorem d_m_power_37 : DD b_m_power 37 .ireturn 1 38 := ⟨by decide +kernel, rfl⟩
theorem d_m_power_38 : DD b_m_power 38 (.aload_n 0) 1 39 := ⟨by decide +kernel, rfl⟩
theorem d_m_power_39 : DD b_m_power 39 (.iload_n 2) 1 40 := ⟨by decide +kernel, rfl⟩
theorem d_m_power_40 : DD b_m_power 40 (.aload_n 0) 1 41 := ⟨by decide +kernel, rfl⟩
theorem d_m_power_41 : DD b_m_power 41 (.getfield 22) 3 44 := ⟨by decide +kernel, rfl⟩
theorem d_m_power_44 : DD b_m_power 44 (.invokevirtual 72) 3 47 := ⟨by decide +kernel, rfl⟩
theorem d_m_power_47 : DD b_m_power 47 (.istore 4) 2 49 := ⟨by decide +kernel, rfl⟩
theorem d_m_power_49 : DD b_m_power 49 (.aload_n 0) 1 50 := ⟨by decide +kernel, rfl⟩
theorem d_m_power_50 : DD b_m_power 50 (.getfield 22) 3 53 := ⟨by decide +kernel, rfl⟩
theorem d_m_power_53 : DD b_m_power 53 (.iload 4) 2 55 := ⟨by decide +kernel, rfl⟩
theorem d_m_power_55 : DD b_m_power 55 (.invokestatic 76) 3 58 := ⟨by decide +kernel, rfl⟩
theorem d_m_power_58 : DD b_m_power 58 (.istore 5) 2 60 := ⟨by decide +kernel, rfl⟩
theorem d_m_power_60 : DD b_m_power 60 (.aload_n 0) 1 61 := ⟨by decide +kernel, rfl⟩
theorem d_m_power_61 : DD b_m_power 61 (.getfield 16) 3 64 := ⟨by decide +kernel, rfl⟩
theorem d_m_power_64 : DD b_m_power 64 (.iload_n 2) 1 65 := ⟨by decide +kernel, rfl⟩
theorem d_m_power_65 : DD b_m_power 65 .iaload 1 66 := ⟨by decide +kernel, rfl⟩
theorem d_m_power_66 : DB b_m_power 66 (.ifCond .ge 14) 14 69 80 := ⟨by decide +kernel, rfl, rfl⟩
theorem d_m_power_69 : DD b_m_power 69 (.iload_n 3) 1 70 := ⟨by decide +kernel, rfl⟩
theorem d_m_power_70 : DD b_m_power 70 (.iconst 1) 1 71 := ⟨by decide +kernel, rfl⟩
theorem d_m_power_71 : DD b_m_power 71 .iand 1 72 := ⟨by decide +kernel, rfl⟩
theorem d_m_power_72 : DD b_m_power 72 (.iconst 1) 1 73 := ⟨by decide +kernel, rfl⟩
theorem d_m_power_73 : DB b_m_power 73 (.if_icmp .ne 7) 7 76 80 := ⟨by decide +kernel, rfl, rfl⟩
theorem d_m_power_76 : DD b_m_power 76 (.iconst (-1)) 1 77 := ⟨by decide +kernel, rfl⟩
theorem d_m_power_77 : DB b_m_power 77 (.goto 4) 4 80 81 := ⟨by decide +kernel, rfl, rfl⟩
theorem d_m_power_80 : DD b_m_power 80 (.iconst 1) 1 81 := ⟨by decide +kernel, rfl⟩
theorem d_m_power_81 : DD b_m_power 81 (.istore 6) 2 83 := ⟨by decide +kernel, rfl⟩
theorem d_m_power_83 : DD b_m_power 83 (.iconst 1) 1 84 := ⟨by decide +kernel, rfl⟩
theorem d_m_power_84 : DD b_m_power 84 (.istore 7) 2 86 := ⟨by decide +kernel, rfl⟩
theorem d_m_power_86 : DD b_m_power 86 (.aload_n 0) 1 87 := ⟨by decide +kernel, rfl⟩
theorem d_m_power_87 : DD b_m_power 87 (.getfield 28) 3 90 := ⟨by decide +kernel, rfl⟩
theorem d_m_power_90 : DD b_m_power 90 (.iconst 0) 1 91 := ⟨by decide +kernel, rfl⟩
theorem d_m_power_91 : DD b_m_power 91 (.iconst 1) 1 92 := ⟨by decide +kernel, rfl⟩
theorem d_m_power_92 : DD b_m_power 92 .iastore 1 93 := ⟨by decide +kernel, rfl⟩
theorem d_m_power_93 : DD b_m_power 93 (.iload_n 3) 1 94 := ⟨by decide +kernel, rfl⟩
theorem d_m_power_94 : DB b_m_power 94 (.ifCond .eq 9) 9 97 103 := ⟨by decide +kernel, rfl, rfl⟩
theorem d_m_power_97 : DD b_m_power 97 (.iload 5) 2 99 := ⟨by decide +kernel, rfl⟩
theorem d_m_power_99 : DD b_m_power 99 (.iconst 2) 1 100 := ⟨by decide +kernel, rfl⟩
theorem d_m_power_100 : DB b_m_power 100 (.if_icmp .ge 45) 45 103 145 := ⟨by decide +kernel, rfl, rfl⟩
theorem d_m_power_103 : DD b_m_power 103 (.aload_n 0) 1 104 := ⟨by decide +kernel, rfl⟩
theorem d_m_power_104 : DD b_m_power 104 (.iload_n 1) 1 105 := ⟨by decide +kernel, rfl⟩
theorem d_m_power_105 : DD b_m_power 105 (.iload_n 3) 1 106 := ⟨by decide +kernel, rfl⟩
theorem d_m_power_106 : DB b_m_power 106 (.ifCond .ne 7) 7 109 113 := ⟨by decide +kernel, rfl, rfl⟩
theorem d_m_power_109 : DD b_m_power 109 (.iconst 1) 1 110 := ⟨by decide +kernel, rfl⟩
theorem d_m_power_110 : DB b_m_power 110 (.goto 5) 5 113 115 := ⟨by decide +kernel, rfl, rfl⟩
theorem d_m_power_113 : DD b_m_power 113 (.iload 6) 2 115 := ⟨by decide +kernel, rfl⟩
theorem d_m_power_115 : DD b_m_power 115 (.aload_n 0) 1 116 := ⟨by decide +kernel, rfl⟩
theorem d_m_power_116 : DD b_m_power 116 (.getfield 28) 3 119 := ⟨by decide +kernel, rfl⟩
theorem d_m_power_119 : DD b_m_power 119 (.iload_n 3) 1 120 := ⟨by decide +kernel, rfl⟩
theorem d_m_power_120 : DB b_m_power 120 (.ifCond .eq 9) 9 123 129 := ⟨by decide +kernel, rfl, rfl⟩
theorem d_m_power_123 : DD b_m_power 123 (.iload 5) 2 125 := ⟨by decide +kernel, rfl⟩
theorem d_m_power_125 : DD b_m_power 125 (.iconst 1) 1 126 := ⟨by decide +kernel, rfl⟩
theorem d_m_power_126 : DB b_m_power 126 (.if_icmp .ne 7) 7 129 133 := ⟨by decide +kernel, rfl, rfl⟩
theorem d_m_power_129 : DD b_m_power 129 (.iconst 1) 1 130 := ⟨by decide +kernel, rfl⟩
theorem d_m_power_130 : DB b_m_power 130 (.goto 4) 4 133 134 := ⟨by decide +kernel, rfl, rfl⟩
theorem d_m_power_133 : DD b_m_power 133 (.iconst 0) 1 134 := ⟨by decide +kernel, rfl⟩
theorem d_m_power_134 : DD b_m_power 134 (.iconst 2) 1 135 := ⟨by decide +kernel, rfl⟩
theorem d_m_power_135 : DD b_m_power 135 (.invokevirtual 91) 3 138 := ⟨by decide +kernel, rfl⟩
theorem d_m_power_138 : DD b_m_power 138 .pop 1 139 := ⟨by decide +kernel, rfl⟩
theorem d_m_power_139 : DD b_m_power 139 (.aload_n 0) 1 140 := ⟨by decide +kernel, rfl⟩
theorem d_m_power_140 : DD b_m_power 140 (.iload_n 1) 1 141 := ⟨by decide +kernel, rfl⟩
theorem d_m_power_141 : DD b_m_power 141 (.invokevirtual 87) 3 144 := ⟨by decide +kernel, rfl⟩
theorem d_m_power_144 : DD b_m_power 144 .ireturn 1 145 := ⟨by decide +kernel, rfl⟩
theorem d_m_power_145 : DD b_m_power 145 (.aload_n 0) 1 146 := ⟨by decide +kernel, rfl⟩
theorem d_m_power_146 : DD b_m_power 146 (.iload 5) 2 148 := ⟨by decide +kernel, rfl⟩
theorem d_m_power_148 : DD b_m_power 148 (.iconst 1) 1 149 := ⟨by decide +kernel, rfl⟩
theorem d_m_power_149 : DD b_m_power 149 .isub 1 150 := ⟨by decide +kernel, rfl⟩
theorem d_m_power_150 : DD b_m_power 150 .i2l 1 151 := ⟨by decide +kernel, rfl⟩
theorem d_m_power_151 : DD b_m_power 151 (.iload_n 3) 1 152 := ⟨by decide +kernel, rfl⟩
theorem d_m_power_152 : DD b_m_power 152 .i2l 1 153 := ⟨by decide +kernel, rfl⟩
theorem d_m_power_153 : DD b_m_power 153 .lmul 1 154 := ⟨by decide +kernel, rfl⟩
theorem d_m_power_154 : DD b_m_power 154 (.ldc2_w 132) 3 157 := ⟨by decide +kernel, rfl⟩
theorem d_m_power_157 : DD b_m_power 157 .lcmp 1 158 := ⟨by decide +kernel, rfl⟩
theorem d_m_power_158 : DB b_m_power 158 (.ifCond .le 7) 7 161 165 := ⟨by decide +kernel, rfl, rfl⟩
theorem d_m_power_161 : DD b_m_power 161 (.iconst 1) 1 162 := ⟨by decide +kernel, rfl⟩
theorem d_m_power_162 : DB b_m_power 162 (.goto 4) 4 165 166 := ⟨by decide +kernel, rfl, rfl⟩
theorem d_m_power_165 : DD b_m_power 165 (.iconst 0) 1 166 := ⟨by decide +kernel, rfl⟩
theorem d_m_power_166 : DD b_m_power 166 (.iconst 2) 1 167 := ⟨by decide +kernel, rfl⟩
theorem d_m_power_167 : DD b_m_power 167 (.invokevirtual 79) 3 170 := ⟨by decide +kernel, rfl⟩
theorem d_m_power_170 : DB b_m_power 170 (.ifCond .eq 5) 5 173 175 := ⟨by decide +kernel, rfl, rfl⟩
theorem d_m_power_173 : DD b_m_power 173 (.iconst 0) 1 174 := ⟨by decide +kernel, rfl⟩
theorem d_m_power_174 : DD b_m_power 174 .ireturn 1 175 := ⟨by decide +kernel, rfl⟩
theorem d_m_power_175 : DD b_m_power 175 (.iconst 0) 1 176 := ⟨by decide +kernel, rfl⟩
theorem d_m_power_176 : DD b_m_power 176 (.istore 8) 2 178 := ⟨by decide +kernel, rfl⟩
theorem d_m_power_178 : DD b_m_power 178 (.iload 8) 2 180 := ⟨by decide +kernel, rfl⟩
theorem d_m_power_180 : DD b_m_power 180 (.iload_n 3) 1 181 := ⟨by decide +kernel, rfl⟩
theorem d_m_power_181 : DB b_m_power 181 (.if_icmp .ge 60) 60 184 241 := ⟨by decide +kernel, rfl, rfl⟩
theorem d_m_power_184 : DD b_m_power 184 (.aload_n 0) 1 185 := ⟨by decide +kernel, rfl⟩
theorem d_m_power_185 : DD b_m_power 185 (.getfield 28) 3 188 := ⟨by decide +kernel, rfl⟩
theorem d_m_power_188 : DD b_m_power 188 (.iload 7) 2 190 := ⟨by decide +kernel, rfl⟩
theorem d_m_power_190 : DD b_m_power 190 (.aload_n 0) 1 191 := ⟨by decide +kernel, rfl⟩
theorem d_m_power_191 : DD b_m_power 191 (.getfield 22) 3 194 := ⟨by decide +kernel, rfl⟩
theorem d_m_power_194 : DD b_m_power 194 (.iload 4) 2 196 := ⟨by decide +kernel, rfl⟩
theorem d_m_power_196 : DD b_m_power 196 (.aload_n 0) 1 197 := ⟨by decide +kernel, rfl⟩
theorem d_m_power_197 : DD b_m_power 197 (.getfield 31) 3 200 := ⟨by decide +kernel, rfl⟩
theorem d_m_power_200 : DD b_m_power 200 (.invokestatic 107) 3 203 := ⟨by decide +kernel, rfl⟩
theorem d_m_power_203 : DD b_m_power 203 (.istore 7) 2 205 := ⟨by decide +kernel, rfl⟩
theorem d_m_power_205 : DD b_m_power 205 (.iconst 0) 1 206 := ⟨by decide +kernel, rfl⟩
theorem d_m_power_206 : DD b_m_power 206 (.istore 9) 2 208 := ⟨by decide +kernel, rfl⟩
theorem d_m_power_208 : DD b_m_power 208 (.iload 9) 2 210 := ⟨by decide +kernel, rfl⟩
theorem d_m_power_210 : DD b_m_power 210 (.iload 7) 2 212 := ⟨by decide +kernel, rfl⟩
theorem d_m_power_212 : DB b_m_power 212 (.if_icmp .ge 23) 23 215 235 := ⟨by decide +kernel, rfl, rfl⟩
theorem d_m_power_215 : DD b_m_power 215 (.aload_n 0) 1 216 := ⟨by decide +kernel, rfl⟩
theorem d_m_power_216 : DD b_m_power 216 (.getfield 28) 3 219 := ⟨by decide +kernel, rfl⟩
theorem d_m_power_219 : DD b_m_power 219 (.iload 9) 2 221 := ⟨by decide +kernel, rfl⟩
theorem d_m_power_221 : DD b_m_power 221 (.aload_n 0) 1 222 := ⟨by decide +kernel, rfl⟩
theorem d_m_power_222 : DD b_m_power 222 (.getfield 31) 3 225 := ⟨by decide +kernel, rfl⟩
theorem d_m_power_225 : DD b_m_power 225 (.iload 9) 2 227 := ⟨by decide +kernel, rfl⟩
theorem d_m_power_227 : DD b_m_power 227 .iaload 1 228 := ⟨by decide +kernel, rfl⟩
theorem d_m_power_228 : DD b_m_power 228 .iastore 1 229 := ⟨by decide +kernel, rfl⟩
theorem d_m_power_229 : DD b_m_power 229 (.iinc 9 1) 3 232 := ⟨by decide +kernel, rfl⟩
theorem d_m_power_232 : DB b_m_power 232 (.goto (-24)) (-24) 235 208 := ⟨by decide +kernel, rfl, rfl⟩
theorem d_m_power_235 : DD b_m_power 235 (.iinc 8 1) 3 238 := ⟨by decide +kernel, rfl⟩
theorem d_m_power_238 : DB b_m_power 238 (.goto (-60)) (-60) 241 178 := ⟨by decide +kernel, rfl, rfl⟩
theorem d_m_power_241 : DD b_m_power 241 (.aload_n 0) 1 242 := ⟨by decide +kernel, rfl⟩
theorem d_m_power_242 : DD b_m_power 242 (.iload_n 1) 1 243 := ⟨by decide +kernel, rfl⟩
theorem d_m_power_243 : DD b_m_power 243 (.iload 6) 2 245 := ⟨by decide +kernel, rfl⟩
theorem d_m_power_245 : DD b_m_power 245 (.aload_n 0) 1 246 := ⟨by decide +kernel, rfl⟩
theorem d_m_power_246 : DD b_m_power 246 (.getfield 28) 3 249 := ⟨by decide +kernel, rfl⟩
theorem d_m_power_249 : DD b_m_power 249 (.iload 7) 2 251 := ⟨by decide +kernel, rfl⟩
theorem d_m_power_251 : DD b_m_power 251 (.iconst 2) 1 252 := ⟨by decide +kernel, rfl⟩
theorem d_m_power_252 : DD b_m_power 252 (.invokevirtual 91) 3 255 := ⟨by decide +kernel, rfl⟩
theorem d_m_power_255 : DB b_m_power 255 (.ifCond .eq 11) 11 258 266 := ⟨by decide +kernel, rfl, rfl⟩
theorem d_m_power_258 : DD b_m_power 258 (.aload_n 0) 1 259 := ⟨by decide +kernel, rfl⟩
theorem d_m_power_259 : DD b_m_power 259 (.iload_n 1) 1 260 := ⟨by decide +kernel, rfl⟩
theorem d_m_power_260 : DD b_m_power 260 (.invokevirtual 87) 3 263 := ⟨by decide +kernel, rfl⟩
theorem d_m_power_263 : DB b_m_power 263 (.goto 4) 4 266 267 := ⟨by decide +kernel, rfl, rfl⟩
theorem d_m_power_266 : DD b_m_power 266 (.iconst 0) 1 267 := ⟨by decide +kernel, rfl⟩
theorem d_m_power_267 : DD b_m_power 267 .ireturn 1 268 := ⟨by decide +kernel, rfl⟩
set_option maxRecDepth 20000 in
set_option maxHeartbeats 4000000 in
theorem c_m_power (l : Launch) (G : ZG) {p0 p1 p2 : Int} {σ : Mem} {K : Int → Mem → Prop} (h : wp_m_power p0 p1 p2 σ K) (h_p0 : okI p0) (h_p1 : okI p1) (h_p2 : okI p2) : Ct l G y_m_power (.code y_m_power b_m_power 10 (some .int)) { frames := 2, cells := 0, slots := 0, locals := 50 } 0 0 1 [.ref (zA G 45), .int (iI p0), .int (iI p1), .int (iI p2)] σ K (fun _ _ => False) := by
  unfold wp_m_power at h
  refine Ct.ofZ [(0, .ref (zA G 45)), (1, .int (iI p0)), (2, .int (iI p1)), (3, .int (iI p2))] "LimbDeskModel" (by decide) rfl (Nat.le_of_ble_eq_true rfl) rfl ?_
  intro E hR hlE C hr hX
  subst hlE
  have hroom_m_bits0 : 0 + 1 ≤ (zR E).frames ∧ 8 + (4 + 11) + 0 ≤ (zR E).locals ∧ 0 + 0 ≤ (zR E).cells ∧ 0 + 0 ≤ (zR E).slots := by rw [hR]; decide
  have hroom_m_fails : 0 + 1 ≤ (zR E).frames ∧ 8 + (3 + 11) + 0 ≤ (zR E).locals ∧ 0 + 0 ≤ (zR E).cells ∧ 0 + 0 ≤ (zR E).slots := by rw [hR]; decide
  have hroom_m_isRegister : 1 + 1 ≤ (zR E).frames ∧ 8 + (1 + 11) + 22 ≤ (zR E).locals ∧ 0 + 0 ≤ (zR E).cells ∧ 0 + 0 ≤ (zR E).slots := by rw [hR]; decide
  have hroom_m_keep : 1 + 1 ≤ (zR E).frames ∧ 8 + (8 + 11) + 23 ≤ (zR E).locals ∧ 0 + 0 ≤ (zR E).cells ∧ 0 + 0 ≤ (zR E).slots := by rw [hR]; decide
  have hroom_m_load : 0 + 1 ≤ (zR E).frames ∧ 8 + (4 + 11) + 0 ≤ (zR E).locals ∧ 0 + 0 ≤ (zR E).cells ∧ 0 + 0 ≤ (zR E).slots := by rw [hR]; decide
  have hroom_m_size0 : 1 + 1 ≤ (zR E).frames ∧ 8 + (3 + 11) + 23 ≤ (zR E).locals ∧ 0 + 0 ≤ (zR E).cells ∧ 0 + 0 ≤ (zR E).slots := by rw [hR]; decide
  have hroom_m_times : 1 + 1 ≤ (zR E).frames ∧ 8 + (9 + 11) + 22 ≤ (zR E).locals ∧ 0 + 0 ≤ (zR E).cells ∧ 0 + 0 ≤ (zR E).slots := by rw [hR]; decide
  clear hR
  obtain ⟨Q, hQ⟩ : ∃ Q, Q = MQX G (zb E) 1 K (fun _ _ => False) (zs E) 0 0 0 0 := ⟨_, rfl⟩
  show Z E G 10 0 0 (MQX G (zb E) 1 K (fun _ _ => False) (zs E) 0 0 0 0) σ 0 [(0, .ref (zA G 45)), (1, .int (iI p0)), (2, .int (iI p1)), (3, .int (iI p2))] []
  rw [← hQ]
  refine z_aload_n C 0 d_m_power_0 rfl ?_
  refine z_iconst C d_m_power_1 ?_
  refine z_mput_err C d_m_power_2 k_460 ?_
  refine z_aload_n C 0 d_m_power_5 rfl ?_
  refine z_iload_n C 1 d_m_power_6 rfl ?_
  refine z_callS C [.int (iI p0)] [.ref (zA G 45)] 1 d_m_power_7 (c_m_isRegister (zl E) G h h_p0) k_519 k_517 k_518 k_3 (by decide)  (by decide +kernel) rfl rfl (Nat.le_of_ble_eq_true rfl) hroom_m_isRegister (fun r1 _s85 ok2 hq => ?_) (fun _ _ hx => hx.elim)
  obtain ⟨hs_, hk_⟩ := hq
  subst hs_
  have h := hk_
  refine Jq1.walk (fun s3 => okI s3 → Z E G 10 0 0 Q (mS σ 45 0 0) 29 [(0, .ref (zA G 45)), (1, .int (iI p0)), (2, .int (iI p1)), (3, .int (iI p2))] [.int (iI s3), .ref (zA G 45)]) h ?_ ?_
  · intro s3 h ok4
    refine z_iconst C d_m_power_29 ?_
    refine z_callV C "LimbDeskModel" [.int (iI s3), .int (iI 1)] [] 2 d_m_power_30 (c_m_fails (zl E) G h ok4 (okI_lit rfl)) k_526 k_523 k_525 k_s6 k_3 (by decide) (recv_M C) (by decide +kernel) rfl rfl (Nat.le_of_ble_eq_true rfl) hroom_m_fails (fun r6 σ7 ok8 hq => ?_) (fun _ _ hx => hx.elim)
    have h := hq
    refine z_if_eq C d_m_power_33 (okI_b ok8) (fun hb9 => ?_) (fun hb9 => ?_)
    · have h := h.1 hb9
      refine z_aload_n C 0 d_m_power_38 rfl ?_
      refine z_iload_n C 2 d_m_power_39 rfl ?_
      refine z_aload_n C 0 d_m_power_40 rfl ?_
      refine z_mget C 6 d_m_power_41 (by decide) k_466 rfl rfl ?_
      refine z_callV C "LimbDeskModel" [.int (iI p1), .ref (zA G 50)] [] 2 d_m_power_44 (c_m_load (zl E) G h h_p1 (Or.inr ⟨by decide, by decide⟩)) k_534 k_531 k_533 k_s8 k_3 (by decide) (recv_M C) (by decide +kernel) rfl rfl (Nat.le_of_ble_eq_true rfl) hroom_m_load (fun r10 σ11 ok12 hq => ?_) (fun _ _ hx => hx.elim)
      have h := hq
      refine z_istore C [(4, .int (iI r10)), (0, .ref (zA G 45)), (1, .int (iI p0)), (2, .int (iI p1)), (3, .int (iI p2))] d_m_power_47 (by decide) rfl ?_
      refine z_aload_n C 1 d_m_power_49 rfl ?_
      refine z_mget C 6 d_m_power_50 (by decide) k_466 rfl rfl ?_
      refine z_iload C 0 d_m_power_53 rfl ?_
      refine z_callS C [.ref (zA G 50), .int (iI r10)] [] 2 d_m_power_55 (c_m_bits0 (zl E) G h (Or.inr ⟨by decide, by decide⟩) ok12) k_537 k_535 k_536 k_3 (by decide)  (by decide +kernel) rfl rfl (Nat.le_of_ble_eq_true rfl) hroom_m_bits0 (fun r13 _s77 ok14 hq => ?_) (fun _ _ hx => hx.elim)
      obtain ⟨hs_, hk_⟩ := hq
      subst hs_
      have h := hk_
      refine z_istore C [(5, .int (iI r13)), (4, .int (iI r10)), (0, .ref (zA G 45)), (1, .int (iI p0)), (2, .int (iI p1)), (3, .int (iI p2))] d_m_power_58 (by decide) rfl ?_
      refine z_aload_n C 2 d_m_power_60 rfl ?_
      refine z_mget C 4 d_m_power_61 (by decide) k_464 rfl rfl ?_
      refine z_iload_n C 4 d_m_power_64 rfl ?_
      obtain ⟨hc15, h⟩ := h
      refine z_ialdN C (16) d_m_power_65 (Or.inr ⟨by decide, by decide⟩) (by decide) hc15 ?_
      obtain ⟨ok16, h⟩ := h
      refine Jq1.walk (fun s17 => okI s17 → Z E G 10 0 0 Q σ11 81 [(0, .ref (zA G 45)), (1, .int (iI p0)), (3, .int (iI p2)), (4, .int (iI r10)), (5, .int (iI r13))] [.int (iI s17)]) h ?_ ?_
      · intro s17 h ok18
        refine z_istore C [(6, .int (iI s17)), (0, .ref (zA G 45)), (1, .int (iI p0)), (3, .int (iI p2)), (4, .int (iI r10)), (5, .int (iI r13))] d_m_power_81 (by decide) rfl ?_
        refine z_iconst C d_m_power_83 ?_
        refine z_istore C [(7, .int (iI 1)), (6, .int (iI s17)), (0, .ref (zA G 45)), (1, .int (iI p0)), (3, .int (iI p2)), (4, .int (iI r10)), (5, .int (iI r13))] d_m_power_84 (by decide) rfl ?_
        refine z_aload_n C 2 d_m_power_86 rfl ?_
        refine z_mget C 8 d_m_power_87 (by decide) k_468 rfl rfl ?_
        refine z_iconst C d_m_power_90 ?_
        refine z_iconst C d_m_power_91 ?_
        refine z_iastN C (9000) d_m_power_92 (Or.inr ⟨by decide, by decide⟩) (by decide) ⟨by decide, by decide⟩ ?_
        refine z_iload_n C 4 d_m_power_93 rfl ?_
        refine Jq0.walk (Z E G 10 0 0 Q (mS σ11 52 0 1) 103 [(0, .ref (zA G 45)), (1, .int (iI p0)), (3, .int (iI p2)), (5, .int (iI r13)), (6, .int (iI s17))] []) h ?_ ?_
        · intro h
          refine z_aload_n C 0 d_m_power_103 rfl ?_
          refine z_iload_n C 1 d_m_power_104 rfl ?_
          refine z_iload_n C 2 d_m_power_105 rfl ?_
          have hj : ∀ s22 : Int, s22 = (if p2 ≠ 0 then s17 else 1) → Z E G 10 0 0 Q (mS σ11 52 0 1) 115 [(0, .ref (zA G 45)), (1, .int (iI p0)), (3, .int (iI p2)), (5, .int (iI r13)), (6, .int (iI s17))] [.int (iI s22), .int (iI p0), .ref (zA G 45)] := by
            intro s22 e23
            have h := h s22 e23
            have ok24 : okI s22 := by rw [e23]; split; exact ok18; exact (okI_lit rfl)
            refine z_aload_n C 0 d_m_power_115 rfl ?_
            refine z_mget C 8 d_m_power_116 (by decide) k_468 rfl rfl ?_
            refine z_iload_n C 2 d_m_power_119 rfl ?_
            refine Jq1.walk (fun s25 => okI s25 → Z E G 10 0 0 Q (mS σ11 52 0 1) 134 [(0, .ref (zA G 45)), (1, .int (iI p0))] [.int (iI s25), .ref (zA G 52), .int (iI s22), .int (iI p0), .ref (zA G 45)]) h ?_ ?_
            · intro s25 h ok26
              refine z_iconst C d_m_power_134 ?_
              refine z_callV C "LimbDeskModel" [.int (iI p0), .int (iI s22), .ref (zA G 52), .int (iI s25), .int (iI 2)] [] 5 d_m_power_135 (c_m_keep (zl E) G h h_p0 ok24 (Or.inr ⟨by decide, by decide⟩) ok26 (okI_lit rfl)) k_542 k_539 k_541 k_s9 k_3 (by decide) (recv_M C) (by decide +kernel) rfl rfl (Nat.le_of_ble_eq_true rfl) hroom_m_keep (fun r28 σ29 ok30 hq => ?_) (fun _ _ hx => hx.elim)
              have h := hq
              refine z_pop C d_m_power_138 rfl ?_
              refine z_aload_n C 0 d_m_power_139 rfl ?_
              refine z_iload_n C 1 d_m_power_140 rfl ?_
              refine z_callV C "LimbDeskModel" [.int (iI p0)] [] 1 d_m_power_141 (c_m_size0 (zl E) G h h_p0) k_530 k_527 k_529 k_s7 k_3 (by decide) (recv_M C) (by decide +kernel) rfl rfl (Nat.le_of_ble_eq_true rfl) hroom_m_size0 (fun r31 σ32 ok33 hq => ?_) (fun _ _ hx => hx.elim)
              have h := hq
              subst hQ
              exact z_ireturn C d_m_power_144.1 hr ⟨Nat.zero_le _, Nat.zero_le _⟩ ok33 h
            · intro J27 HJ27 h
              refine Jq0.walk (Z E G 10 0 0 Q (mS σ11 52 0 1) 129 [(0, .ref (zA G 45)), (1, .int (iI p0))] [.ref (zA G 52), .int (iI s22), .int (iI p0), .ref (zA G 45)]) h ?_ ?_
              · intro h
                refine z_iconst C d_m_power_129 ?_
                refine z_goto C d_m_power_130 ?_
                refine z_sub [(0, .ref (zA G 45)), (1, .int (iI p0))] [0, 1] rfl ?_
                exact HJ27 _ h (okI_lit rfl)
              · intro J34 HJ34 h
                refine z_if_eq C d_m_power_120 h_p2 (fun hb35 => ?_) (fun hb35 => ?_)
                · have h := h.1 hb35
                  refine z_sub [(0, .ref (zA G 45)), (1, .int (iI p0))] [0, 1] rfl ?_
                  exact HJ34 h
                · have h := h.2 hb35
                  refine z_iload C 3 d_m_power_123 rfl ?_
                  refine z_iconst C d_m_power_125 ?_
                  refine z_icmp_ne C d_m_power_126 ok14 (okI_lit rfl) (fun hb36 => ?_) (fun hb36 => ?_)
                  · have h := h.1 hb36
                    refine z_iconst C d_m_power_133 ?_
                    refine z_sub [(0, .ref (zA G 45)), (1, .int (iI p0))] [0, 1] rfl ?_
                    exact HJ27 _ h (okI_lit rfl)
                  · have h := h.2 hb36
                    refine z_sub [(0, .ref (zA G 45)), (1, .int (iI p0))] [0, 1] rfl ?_
                    exact HJ34 h
          clear h
          refine z_if_ne C d_m_power_106 h_p2 (fun hb21 => ?_) (fun hb21 => ?_)
          · refine z_iload C 4 d_m_power_113 rfl ?_
            exact hj _ (if_pos hb21).symm
          · refine z_iconst C d_m_power_109 ?_
            refine z_goto C d_m_power_110 ?_
            exact hj _ (if_neg (not_not_intro hb21)).symm
        · intro J20 HJ20 h
          refine z_if_eq C d_m_power_94 h_p2 (fun hb37 => ?_) (fun hb37 => ?_)
          · have h := h.1 hb37
            refine z_sub [(0, .ref (zA G 45)), (1, .int (iI p0)), (3, .int (iI p2)), (5, .int (iI r13)), (6, .int (iI s17))] [2, 3, 4, 6, 1] rfl ?_
            exact HJ20 h
          · have h := h.2 hb37
            refine z_iload C 6 d_m_power_97 rfl ?_
            refine z_iconst C d_m_power_99 ?_
            refine z_icmp_ge C d_m_power_100 ok14 (okI_lit rfl) (fun hb38 => ?_) (fun hb38 => ?_)
            · have h := h.1 hb38
              refine z_aload_n C 2 d_m_power_145 rfl ?_
              refine z_iload C 6 d_m_power_146 rfl ?_
              refine z_iconst C d_m_power_148 ?_
              refine z_isub C d_m_power_149 ?_
              obtain ⟨ok39, h⟩ := h
              refine z_i2l C d_m_power_150 ok39 ?_
              refine z_iload_n C 4 d_m_power_151 rfl ?_
              refine z_i2l C d_m_power_152 h_p2 ?_
              refine z_lmul C d_m_power_153 ?_
              refine z_ldc2 C d_m_power_154 k_616 (n := 2048) (by decide) ?_
              obtain ⟨ok40, h⟩ := h
              have hj : ∀ s42 : Int, s42 = (if ((r13 - 1) * p2) ≤ 2048 then 0 else 1) → Z E G 10 0 0 Q (mS σ11 52 0 1) 166 [(7, .int (iI 1)), (6, .int (iI s17)), (0, .ref (zA G 45)), (1, .int (iI p0)), (3, .int (iI p2)), (4, .int (iI r10)), (5, .int (iI r13))] [.int (iI s42), .ref (zA G 45)] := by
                intro s42 e43
                have h := h s42 e43
                have ok44 : okI s42 := by rw [e43]; split; exact (okI_lit rfl); exact (okI_lit rfl)
                refine z_iconst C d_m_power_166 ?_
                refine z_callV C "LimbDeskModel" [.int (iI s42), .int (iI 2)] [] 2 d_m_power_167 (c_m_fails (zl E) G h ok44 (okI_lit rfl)) k_526 k_523 k_525 k_s6 k_3 (by decide) (recv_M C) (by decide +kernel) rfl rfl (Nat.le_of_ble_eq_true rfl) hroom_m_fails (fun r45 σ46 ok47 hq => ?_) (fun _ _ hx => hx.elim)
                have h := hq
                refine z_if_eq C d_m_power_170 (okI_b ok47) (fun hb48 => ?_) (fun hb48 => ?_)
                · have h := h.1 hb48
                  refine z_iconst C d_m_power_175 ?_
                  refine z_istore C [(8, .int (iI 0)), (7, .int (iI 1)), (6, .int (iI s17)), (0, .ref (zA G 45)), (1, .int (iI p0)), (3, .int (iI p2)), (4, .int (iI r10)), (5, .int (iI r13))] d_m_power_176 (by decide) rfl ?_
                  refine z_sub [(0, .ref (zA G 45)), (1, .int (iI p0)), (3, .int (iI p2)), (4, .int (iI r10)), (6, .int (iI s17)), (7, .int (iI 1)), (8, .int (iI 0))] [3, 4, 5, 6, 2, 1, 0] rfl ?_
                  refine (Lo2.walk (P := fun v7_49 v8_50 σ51 => okI v7_49 → okI v8_50 → Z E G 10 0 0 Q σ51 178 [(0, .ref (zA G 45)), (1, .int (iI p0)), (3, .int (iI p2)), (4, .int (iI r10)), (6, .int (iI s17)), (7, .int (iI v7_49)), (8, .int (iI v8_50))] []) ?_ h) (okI_lit rfl) (okI_lit rfl)
                  intro v7_49 v8_50 σ51 again54 Hagain54 h ok52 ok53
                  refine z_iload C 6 d_m_power_178 rfl ?_
                  refine z_iload_n C 2 d_m_power_180 rfl ?_
                  refine z_icmp_ge C d_m_power_181 ok53 h_p2 (fun hb55 => ?_) (fun hb55 => ?_)
                  · have h := h.1 hb55
                    refine z_aload_n C 0 d_m_power_241 rfl ?_
                    refine z_iload_n C 1 d_m_power_242 rfl ?_
                    refine z_iload C 4 d_m_power_243 rfl ?_
                    refine z_aload_n C 0 d_m_power_245 rfl ?_
                    refine z_mget C 8 d_m_power_246 (by decide) k_468 rfl rfl ?_
                    refine z_iload C 5 d_m_power_249 rfl ?_
                    refine z_iconst C d_m_power_251 ?_
                    refine z_callV C "LimbDeskModel" [.int (iI p0), .int (iI s17), .ref (zA G 52), .int (iI v7_49), .int (iI 2)] [] 5 d_m_power_252 (c_m_keep (zl E) G h h_p0 ok18 (Or.inr ⟨by decide, by decide⟩) ok52 (okI_lit rfl)) k_542 k_539 k_541 k_s9 k_3 (by decide) (recv_M C) (by decide +kernel) rfl rfl (Nat.le_of_ble_eq_true rfl) hroom_m_keep (fun r56 σ57 ok58 hq => ?_) (fun _ _ hx => hx.elim)
                    have h := hq
                    refine z_if_eq C d_m_power_255 (okI_b ok58) (fun hb59 => ?_) (fun hb59 => ?_)
                    · have h := h.1 hb59
                      refine z_iconst C d_m_power_266 ?_
                      subst hQ
                      exact z_ireturn C d_m_power_267.1 hr ⟨Nat.zero_le _, Nat.zero_le _⟩ (okI_lit rfl) h
                    · have h := h.2 hb59
                      refine z_aload_n C 0 d_m_power_258 rfl ?_
                      refine z_iload_n C 1 d_m_power_259 rfl ?_
                      refine z_callV C "LimbDeskModel" [.int (iI p0)] [] 1 d_m_power_260 (c_m_size0 (zl E) G h h_p0) k_530 k_527 k_529 k_s7 k_3 (by decide) (recv_M C) (by decide +kernel) rfl rfl (Nat.le_of_ble_eq_true rfl) hroom_m_size0 (fun r60 σ61 ok62 hq => ?_) (fun _ _ hx => hx.elim)
                      have h := hq
                      refine z_goto C d_m_power_263 ?_
                      subst hQ
                      exact z_ireturn C d_m_power_267.1 hr ⟨Nat.zero_le _, Nat.zero_le _⟩ ok62 h
                  · have h := h.2 hb55
                    refine z_aload_n C 0 d_m_power_184 rfl ?_
                    refine z_mget C 8 d_m_power_185 (by decide) k_468 rfl rfl ?_
                    refine z_iload C 5 d_m_power_188 rfl ?_
                    refine z_aload_n C 0 d_m_power_190 rfl ?_
                    refine z_mget C 6 d_m_power_191 (by decide) k_466 rfl rfl ?_
                    refine z_iload C 3 d_m_power_194 rfl ?_
                    refine z_aload_n C 0 d_m_power_196 rfl ?_
                    refine z_mget C 9 d_m_power_197 (by decide) k_469 rfl rfl ?_
                    refine z_callS C [.ref (zA G 52), .int (iI v7_49), .ref (zA G 50), .int (iI r10), .ref (zA G 53)] [] 5 d_m_power_200 (c_m_times (zl E) G h (Or.inr ⟨by decide, by decide⟩) ok52 (Or.inr ⟨by decide, by decide⟩) ok12 (Or.inr ⟨by decide, by decide⟩)) k_575 k_573 k_574 k_3 (by decide)  (by decide +kernel) rfl rfl (Nat.le_of_ble_eq_true rfl) hroom_m_times (fun r63 σ64 ok65 hq => ?_) (fun _ _ hx => hx.elim)
                    have h := hq
                    refine z_istore C [(7, .int (iI r63)), (0, .ref (zA G 45)), (1, .int (iI p0)), (3, .int (iI p2)), (4, .int (iI r10)), (6, .int (iI s17)), (8, .int (iI v8_50))] d_m_power_203 (by decide) rfl ?_
                    refine z_iconst C d_m_power_205 ?_
                    refine z_istore C [(9, .int (iI 0)), (7, .int (iI r63)), (0, .ref (zA G 45)), (1, .int (iI p0)), (3, .int (iI p2)), (4, .int (iI r10)), (6, .int (iI s17)), (8, .int (iI v8_50))] d_m_power_206 (by decide) rfl ?_
                    refine z_sub [(0, .ref (zA G 45)), (1, .int (iI p0)), (3, .int (iI p2)), (4, .int (iI r10)), (6, .int (iI s17)), (7, .int (iI r63)), (8, .int (iI v8_50)), (9, .int (iI 0))] [2, 3, 4, 5, 6, 1, 7, 0] rfl ?_
                    refine (Lo1.walk (P := fun v9_66 σ67 => okI v9_66 → Z E G 10 0 0 Q σ67 208 [(0, .ref (zA G 45)), (1, .int (iI p0)), (3, .int (iI p2)), (4, .int (iI r10)), (6, .int (iI s17)), (7, .int (iI r63)), (8, .int (iI v8_50)), (9, .int (iI v9_66))] []) ?_ h) (okI_lit rfl)
                    intro v9_66 σ67 again69 Hagain69 h ok68
                    refine z_iload C 7 d_m_power_208 rfl ?_
                    refine z_iload C 5 d_m_power_210 rfl ?_
                    refine z_icmp_ge C d_m_power_212 ok68 ok65 (fun hb70 => ?_) (fun hb70 => ?_)
                    · have h := h.1 hb70
                      refine z_iinc C 6 [(8, .int (iI (v8_50 + 1))), (0, .ref (zA G 45)), (1, .int (iI p0)), (3, .int (iI p2)), (4, .int (iI r10)), (6, .int (iI s17)), (7, .int (iI r63)), (9, .int (iI v9_66))] d_m_power_235 rfl (by decide) rfl ?_
                      refine z_goto C d_m_power_238 ?_
                      obtain ⟨ok71, h⟩ := h
                      refine z_sub [(0, .ref (zA G 45)), (1, .int (iI p0)), (3, .int (iI p2)), (4, .int (iI r10)), (6, .int (iI s17)), (7, .int (iI r63)), (8, .int (iI (v8_50 + 1)))] [1, 2, 3, 4, 5, 6, 0] rfl ?_
                      exact Hagain54 _ _ _ h ok65 ok71
                    · have h := h.2 hb70
                      refine z_aload_n C 0 d_m_power_215 rfl ?_
                      refine z_mget C 8 d_m_power_216 (by decide) k_468 rfl rfl ?_
                      refine z_iload C 7 d_m_power_219 rfl ?_
                      refine z_aload_n C 0 d_m_power_221 rfl ?_
                      refine z_mget C 9 d_m_power_222 (by decide) k_469 rfl rfl ?_
                      refine z_iload C 7 d_m_power_225 rfl ?_
                      obtain ⟨hc72, h⟩ := h
                      refine z_ialdN C (9000) d_m_power_227 (Or.inr ⟨by decide, by decide⟩) (by decide) hc72 ?_
                      refine z_iastN C (9000) d_m_power_228 (Or.inr ⟨by decide, by decide⟩) (by decide) hc72 ?_
                      refine z_iinc C 7 [(9, .int (iI (v9_66 + 1))), (0, .ref (zA G 45)), (1, .int (iI p0)), (3, .int (iI p2)), (4, .int (iI r10)), (6, .int (iI s17)), (7, .int (iI r63)), (8, .int (iI v8_50))] d_m_power_229 rfl (by decide) rfl ?_
                      refine z_goto C d_m_power_232 ?_
                      obtain ⟨ok73, h⟩ := h
                      refine z_sub [(0, .ref (zA G 45)), (1, .int (iI p0)), (3, .int (iI p2)), (4, .int (iI r10)), (6, .int (iI s17)), (7, .int (iI r63)), (8, .int (iI v8_50)), (9, .int (iI (v9_66 + 1)))] [1, 2, 3, 4, 5, 6, 7, 0] rfl ?_
                      exact Hagain69 _ _ h ok73
                · have h := h.2 hb48
                  refine z_iconst C d_m_power_173 ?_
                  subst hQ
                  exact z_ireturn C d_m_power_174.1 hr ⟨Nat.zero_le _, Nat.zero_le _⟩ (okI_lit rfl) h
              clear h
              refine z_lcmp_le C d_m_power_157 d_m_power_158 ok40 (okL_lit rfl) (fun hb41 => ?_) (fun hb41 => ?_)
              · refine z_iconst C d_m_power_165 ?_
                exact hj _ (if_pos hb41).symm
              · refine z_iconst C d_m_power_161 ?_
                refine z_goto C d_m_power_162 ?_
                exact hj _ (if_neg (Int.not_le.mpr hb41)).symm
            · have h := h.2 hb38
              refine z_sub [(0, .ref (zA G 45)), (1, .int (iI p0)), (3, .int (iI p2)), (5, .int (iI r13)), (6, .int (iI s17))] [2, 3, 4, 6, 1] rfl ?_
              exact HJ20 h
      · intro J19 HJ19 h
        refine Jq0.walk (Z E G 10 0 0 Q σ11 80 [(0, .ref (zA G 45)), (1, .int (iI p0)), (3, .int (iI p2)), (4, .int (iI r10)), (5, .int (iI r13))] []) h ?_ ?_
        · intro h
          refine z_iconst C d_m_power_80 ?_
          refine z_sub [(0, .ref (zA G 45)), (1, .int (iI p0)), (3, .int (iI p2)), (4, .int (iI r10)), (5, .int (iI r13))] [0, 1, 2, 3, 4] rfl ?_
          exact HJ19 _ h (okI_lit rfl)
        · intro J74 HJ74 h
          refine z_if_ge C d_m_power_66 ok16 (fun hb75 => ?_) (fun hb75 => ?_)
          · have h := h.1 hb75
            refine z_sub [(0, .ref (zA G 45)), (1, .int (iI p0)), (3, .int (iI p2)), (4, .int (iI r10)), (5, .int (iI r13))] [2, 3, 5, 1, 0] rfl ?_
            exact HJ74 h
          · have h := h.2 hb75
            refine z_iload_n C 5 d_m_power_69 rfl ?_
            refine z_iconst C d_m_power_70 ?_
            refine z_imask C 1 2 d_m_power_71 (by decide) (by decide) (by decide) ?_
            refine z_iconst C d_m_power_72 ?_
            refine z_icmp_ne C d_m_power_73 (okI_mod (by decide) (by decide)) (okI_lit rfl) (fun hb76 => ?_) (fun hb76 => ?_)
            · have h := h.1 hb76
              refine z_sub [(0, .ref (zA G 45)), (1, .int (iI p0)), (3, .int (iI p2)), (4, .int (iI r10)), (5, .int (iI r13))] [2, 3, 5, 1, 0] rfl ?_
              exact HJ74 h
            · have h := h.2 hb76
              refine z_iconst C d_m_power_76 ?_
              refine z_goto C d_m_power_77 ?_
              refine z_sub [(0, .ref (zA G 45)), (1, .int (iI p0)), (3, .int (iI p2)), (4, .int (iI r10)), (5, .int (iI r13))] [2, 3, 5, 1, 0] rfl ?_
              exact HJ19 _ h (okI_lit rfl)
    · have h := h.2 hb9
      refine z_iconst C d_m_power_36 ?_
      subst hQ
      exact z_ireturn C d_m_power_37.1 hr ⟨Nat.zero_le _, Nat.zero_le _⟩ (okI_lit rfl) h
  · intro J5 HJ5 h
    refine Jq0.walk (Z E G 10 0 0 Q (mS σ 45 0 0) 24 [(0, .ref (zA G 45)), (1, .int (iI p0)), (2, .int (iI p1)), (3, .int (iI p2))] [.ref (zA G 45)]) h ?_ ?_
    · intro h
      refine z_iconst C d_m_power_24 ?_
      refine z_goto C d_m_power_25 ?_
      refine z_sub [(0, .ref (zA G 45)), (1, .int (iI p0)), (2, .int (iI p1)), (3, .int (iI p2))] [0, 1, 2, 3] rfl ?_
      exact HJ5 _ h (okI_lit rfl)
    · intro J78 HJ78 h
      refine z_if_eq C d_m_power_10 (okI_b ok2) (fun hb79 => ?_) (fun hb79 => ?_)
      · have h := h.1 hb79
        refine z_sub [(0, .ref (zA G 45)), (1, .int (iI p0)), (2, .int (iI p1)), (3, .int (iI p2))] [0, 1, 2, 3] rfl ?_
        exact HJ78 h
      · have h := h.2 hb79
        refine z_iload_n C 2 d_m_power_13 rfl ?_
        refine z_callS C [.int (iI p1)] [.ref (zA G 45)] 1 d_m_power_14 (c_m_isRegister (zl E) G h h_p1) k_519 k_517 k_518 k_3 (by decide)  (by decide +kernel) rfl rfl (Nat.le_of_ble_eq_true rfl) hroom_m_isRegister (fun r80 _s84 ok81 hq => ?_) (fun _ _ hx => hx.elim)
        obtain ⟨hs_, hk_⟩ := hq
        subst hs_
        have h := hk_
        refine z_if_eq C d_m_power_17 (okI_b ok81) (fun hb82 => ?_) (fun hb82 => ?_)
        · have h := h.1 hb82
          refine z_sub [(0, .ref (zA G 45)), (1, .int (iI p0)), (2, .int (iI p1)), (3, .int (iI p2))] [0, 1, 2, 3] rfl ?_
          exact HJ78 h
        · have h := h.2 hb82
          refine z_iload_n C 3 d_m_power_20 rfl ?_
          refine z_if_ge C d_m_power_21 h_p2 (fun hb83 => ?_) (fun hb83 => ?_)
          · have h := h.1 hb83
            refine z_iconst C d_m_power_28 ?_
            refine z_sub [(0, .ref (zA G 45)), (1, .int (iI p0)), (2, .int (iI p1)), (3, .int (iI p2))] [0, 1, 2, 3] rfl ?_
            exact HJ5 _ h (okI_lit rfl)
          · have h := h.2 hb83
            refine z_sub [(0, .ref (zA G 45)), (1, .int (iI p0)), (2, .int (iI p1)), (3, .int (iI p2))] [0, 1, 2, 3] rfl ?_
            exact HJ78 h
theorem d_m_residue_0 : DD b_m_residue 0 (.aload_n 0) 1 1 := ⟨by decide +kernel, rfl⟩
theorem d_m_residue_1 : DD b_m_residue 1 (.iconst 0) 1 2 := ⟨by decide +kernel, rfl⟩
theorem d_m_residue_2 : DD b_m_residue 2 (.putfield 49) 3 5 := ⟨by decide +kernel, rfl⟩
theorem d_m_residue_5 : DD b_m_residue 5 (.aload_n 0) 1 6 := ⟨by decide +kernel, rfl⟩
theorem d_m_residue_6 : DD b_m_residue 6 (.iload_n 1) 1 7 := ⟨by decide +kernel, rfl⟩
theorem d_m_residue_7 : DD b_m_residue 7 (.invokestatic 83) 3 10 := ⟨by decide +kernel, rfl⟩
theorem d_m_residue_10 : DB b_m_residue 10 (.ifCond .eq 34) 34 13 44 := ⟨by decide +kernel, rfl, rfl⟩
theorem d_m_residue_13 : DD b_m_residue 13 (.iload_n 2) 1 14 := ⟨by decide +kernel, rfl⟩
theorem d_m_residue_14 : DD b_m_residue 14 (.invokestatic 83) 3 17 := ⟨by decide +kernel, rfl⟩
theorem d_m_residue_17 : DB b_m_residue 17 (.ifCond .eq 27) 27 20 44 := ⟨by decide +kernel, rfl, rfl⟩
theorem d_m_residue_20 : DD b_m_residue 20 (.iload_n 3) 1 21 := ⟨by decide +kernel, rfl⟩
theorem d_m_residue_21 : DD b_m_residue 21 (.invokestatic 83) 3 24 := ⟨by decide +kernel, rfl⟩
theorem d_m_residue_24 : DB b_m_residue 24 (.ifCond .eq 20) 20 27 44 := ⟨by decide +kernel, rfl, rfl⟩
theorem d_m_residue_27 : DD b_m_residue 27 (.iload 4) 2 29 := ⟨by decide +kernel, rfl⟩
theorem d_m_residue_29 : DD b_m_residue 29 (.invokestatic 83) 3 32 := ⟨by decide +kernel, rfl⟩
theorem d_m_residue_32 : DB b_m_residue 32 (.ifCond .eq 12) 12 35 44 := ⟨by decide +kernel, rfl, rfl⟩
theorem d_m_residue_35 : DD b_m_residue 35 (.aload_n 0) 1 36 := ⟨by decide +kernel, rfl⟩
theorem d_m_residue_36 : DD b_m_residue 36 (.getfield 16) 3 39 := ⟨by decide +kernel, rfl⟩
theorem d_m_residue_39 : DD b_m_residue 39 (.iload_n 3) 1 40 := ⟨by decide +kernel, rfl⟩
theorem d_m_residue_40 : DD b_m_residue 40 .iaload 1 41 := ⟨by decide +kernel, rfl⟩
theorem d_m_residue_41 : DB b_m_residue 41 (.ifCond .ge 7) 7 44 48 := ⟨by decide +kernel, rfl, rfl⟩
theorem d_m_residue_44 : DD b_m_residue 44 (.iconst 1) 1 45 := ⟨by decide +kernel, rfl⟩
theorem d_m_residue_45 : DB b_m_residue 45 (.goto 4) 4 48 49 := ⟨by decide +kernel, rfl, rfl⟩
theorem d_m_residue_48 : DD b_m_residue 48 (.iconst 0) 1 49 := ⟨by decide +kernel, rfl⟩
theorem d_m_residue_49 : DD b_m_residue 49 (.iconst 1) 1 50 := ⟨by decide +kernel, rfl⟩
theorem d_m_residue_50 : DD b_m_residue 50 (.invokevirtual 79) 3 53 := ⟨by decide +kernel, rfl⟩
theorem d_m_residue_53 : DB b_m_residue 53 (.ifCond .ne 26) 26 56 79 := ⟨by decide +kernel, rfl, rfl⟩
theorem d_m_residue_56 : DD b_m_residue 56 (.aload_n 0) 1 57 := ⟨by decide +kernel, rfl⟩
theorem d_m_residue_57 : DD b_m_residue 57 (.aload_n 0) 1 58 := ⟨by decide +kernel, rfl⟩
theorem d_m_residue_58 : DD b_m_residue 58 (.getfield 16) 3 61 := ⟨by decide +kernel, rfl⟩
theorem d_m_residue_61 : DD b_m_residue 61 (.iload 4) 2 63 := ⟨by decide +kernel, rfl⟩
theorem d_m_residue_63 : DD b_m_residue 63 .iaload 1 64 := ⟨by decide +kernel, rfl⟩
theorem d_m_residue_64 : DB b_m_residue 64 (.ifCond .ne 7) 7 67 71 := ⟨by decide +kernel, rfl, rfl⟩
theorem d_m_residue_67 : DD b_m_residue 67 (.iconst 1) 1 68 := ⟨by decide +kernel, rfl⟩
theorem d_m_residue_68 : DB b_m_residue 68 (.goto 4) 4 71 72 := ⟨by decide +kernel, rfl, rfl⟩
theorem d_m_residue_71 : DD b_m_residue 71 (.iconst 0) 1 72 := ⟨by decide +kernel, rfl⟩
theorem d_m_residue_72 : DD b_m_residue 72 (.iconst 2) 1 73 := ⟨by decide +kernel, rfl⟩
theorem d_m_residue_73 : DD b_m_residue 73 (.invokevirtual 79) 3 76 := ⟨by decide +kernel, rfl⟩
theorem d_m_residue_76 : DB b_m_residue 76 (.ifCond .eq 5) 5 79 81 := ⟨by decide +kernel, rfl, rfl⟩
theorem d_m_residue_79 : DD b_m_residue 79 (.iconst 0) 1 80 := ⟨by decide +kernel, rfl⟩
theorem d_m_residue_80 : DD b_m_residue 80 .ireturn 1 81 := ⟨by decide +kernel, rfl⟩
theorem d_m_residue_81 : DD b_m_residue 81 (.aload_n 0) 1 82 := ⟨by decide +kernel, rfl⟩
theorem d_m_residue_82 : DD b_m_residue 82 (.iload_n 3) 1 83 := ⟨by decide +kernel, rfl⟩
theorem d_m_residue_83 : DD b_m_residue 83 (.aload_n 0) 1 84 := ⟨by decide +kernel, rfl⟩
theorem d_m_residue_84 : DD b_m_residue 84 (.getfield 37) 3 87 := ⟨by decide +kernel, rfl⟩
theorem d_m_residue_87 : DD b_m_residue 87 (.invokevirtual 72) 3 90 := ⟨by decide +kernel, rfl⟩
theorem d_m_residue_90 : DD b_m_residue 90 (.istore 5) 2 92 := ⟨by decide +kernel, rfl⟩
theorem d_m_residue_92 : DD b_m_residue 92 (.aload_n 0) 1 93 := ⟨by decide +kernel, rfl⟩
theorem d_m_residue_93 : DD b_m_residue 93 (.iload 4) 2 95 := ⟨by decide +kernel, rfl⟩
theorem d_m_residue_95 : DD b_m_residue 95 (.aload_n 0) 1 96 := ⟨by decide +kernel, rfl⟩
theorem d_m_residue_96 : DD b_m_residue 96 (.getfield 34) 3 99 := ⟨by decide +kernel, rfl⟩
theorem d_m_residue_99 : DD b_m_residue 99 (.invokevirtual 72) 3 102 := ⟨by decide +kernel, rfl⟩
theorem d_m_residue_102 : DD b_m_residue 102 (.istore 6) 2 104 := ⟨by decide +kernel, rfl⟩
theorem d_m_residue_104 : DD b_m_residue 104 (.aload_n 0) 1 105 := ⟨by decide +kernel, rfl⟩
theorem d_m_residue_105 : DD b_m_residue 105 (.iload_n 2) 1 106 := ⟨by decide +kernel, rfl⟩
theorem d_m_residue_106 : DD b_m_residue 106 (.aload_n 0) 1 107 := ⟨by decide +kernel, rfl⟩
theorem d_m_residue_107 : DD b_m_residue 107 (.getfield 22) 3 110 := ⟨by decide +kernel, rfl⟩
theorem d_m_residue_110 : DD b_m_residue 110 (.invokevirtual 72) 3 113 := ⟨by decide +kernel, rfl⟩
theorem d_m_residue_113 : DD b_m_residue 113 (.istore 7) 2 115 := ⟨by decide +kernel, rfl⟩
theorem d_m_residue_115 : DD b_m_residue 115 (.iconst 1) 1 116 := ⟨by decide +kernel, rfl⟩
theorem d_m_residue_116 : DD b_m_residue 116 (.istore 8) 2 118 := ⟨by decide +kernel, rfl⟩
theorem d_m_residue_118 : DD b_m_residue 118 (.aload_n 0) 1 119 := ⟨by decide +kernel, rfl⟩
theorem d_m_residue_119 : DD b_m_residue 119 (.getfield 37) 3 122 := ⟨by decide +kernel, rfl⟩
theorem d_m_residue_122 : DD b_m_residue 122 (.iload 5) 2 124 := ⟨by decide +kernel, rfl⟩
theorem d_m_residue_124 : DD b_m_residue 124 (.invokestatic 76) 3 127 := ⟨by decide +kernel, rfl⟩
theorem d_m_residue_127 : DD b_m_residue 127 (.istore 9) 2 129 := ⟨by decide +kernel, rfl⟩
theorem d_m_residue_129 : DD b_m_residue 129 (.aload_n 0) 1 130 := ⟨by decide +kernel, rfl⟩
theorem d_m_residue_130 : DD b_m_residue 130 (.getfield 16) 3 133 := ⟨by decide +kernel, rfl⟩
theorem d_m_residue_133 : DD b_m_residue 133 (.iload_n 2) 1 134 := ⟨by decide +kernel, rfl⟩
theorem d_m_residue_134 : DD b_m_residue 134 .iaload 1 135 := ⟨by decide +kernel, rfl⟩
theorem d_m_residue_135 : DB b_m_residue 135 (.ifCond .ge 20) 20 138 155 := ⟨by decide +kernel, rfl, rfl⟩
theorem d_m_residue_138 : DD b_m_residue 138 (.aload_n 0) 1 139 := ⟨by decide +kernel, rfl⟩
theorem d_m_residue_139 : DD b_m_residue 139 (.getfield 37) 3 142 := ⟨by decide +kernel, rfl⟩
theorem d_m_residue_142 : DD b_m_residue 142 (.iload 5) 2 144 := ⟨by decide +kernel, rfl⟩
theorem d_m_residue_144 : DD b_m_residue 144 (.iconst 0) 1 145 := ⟨by decide +kernel, rfl⟩
theorem d_m_residue_145 : DD b_m_residue 145 (.invokestatic 124) 3 148 := ⟨by decide +kernel, rfl⟩
theorem d_m_residue_148 : DB b_m_residue 148 (.ifCond .eq 7) 7 151 155 := ⟨by decide +kernel, rfl, rfl⟩
theorem d_m_residue_151 : DD b_m_residue 151 (.iconst 1) 1 152 := ⟨by decide +kernel, rfl⟩
theorem d_m_residue_152 : DB b_m_residue 152 (.goto 4) 4 155 156 := ⟨by decide +kernel, rfl, rfl⟩
theorem d_m_residue_155 : DD b_m_residue 155 (.iconst 0) 1 156 := ⟨by decide +kernel, rfl⟩
theorem d_m_residue_156 : DD b_m_residue 156 (.istore 10) 2 158 := ⟨by decide +kernel, rfl⟩
theorem d_m_residue_158 : DD b_m_residue 158 (.iconst 0) 1 159 := ⟨by decide +kernel, rfl⟩
theorem d_m_residue_159 : DD b_m_residue 159 (.istore 11) 2 161 := ⟨by decide +kernel, rfl⟩
theorem d_m_residue_161 : DD b_m_residue 161 (.iload 11) 2 163 := ⟨by decide +kernel, rfl⟩
theorem d_m_residue_163 : DD b_m_residue 163 (.iload 5) 2 165 := ⟨by decide +kernel, rfl⟩
theorem d_m_residue_165 : DB b_m_residue 165 (.if_icmp .ge 23) 23 168 188 := ⟨by decide +kernel, rfl, rfl⟩
theorem d_m_residue_168 : DD b_m_residue 168 (.aload_n 0) 1 169 := ⟨by decide +kernel, rfl⟩
theorem d_m_residue_169 : DD b_m_residue 169 (.getfield 43) 3 172 := ⟨by decide +kernel, rfl⟩
theorem d_m_residue_172 : DD b_m_residue 172 (.iload 11) 2 174 := ⟨by decide +kernel, rfl⟩
theorem d_m_residue_174 : DD b_m_residue 174 (.aload_n 0) 1 175 := ⟨by decide +kernel, rfl⟩
theorem d_m_residue_175 : DD b_m_residue 175 (.getfield 37) 3 178 := ⟨by decide +kernel, rfl⟩
theorem d_m_residue_178 : DD b_m_residue 178 (.iload 11) 2 180 := ⟨by decide +kernel, rfl⟩
theorem d_m_residue_180 : DD b_m_residue 180 .iaload 1 181 := ⟨by decide +kernel, rfl⟩
theorem d_m_residue_181 : DD b_m_residue 181 .iastore 1 182 := ⟨by decide +kernel, rfl⟩
theorem d_m_residue_182 : DD b_m_residue 182 (.iinc 11 1) 3 185 := ⟨by decide +kernel, rfl⟩
theorem d_m_residue_185 : DB b_m_residue 185 (.goto (-24)) (-24) 188 161 := ⟨by decide +kernel, rfl, rfl⟩
theorem d_m_residue_188 : DD b_m_residue 188 (.aload_n 0) 1 189 := ⟨by decide +kernel, rfl⟩
theorem d_m_residue_189 : DD b_m_residue 189 (.aload_n 0) 1 190 := ⟨by decide +kernel, rfl⟩
theorem d_m_residue_190 : DD b_m_residue 190 (.getfield 22) 3 193 := ⟨by decide +kernel, rfl⟩
theorem d_m_residue_193 : DD b_m_residue 193 (.iload 7) 2 195 := ⟨by decide +kernel, rfl⟩
theorem d_m_residue_195 : DD b_m_residue 195 (.aload_n 0) 1 196 := ⟨by decide +kernel, rfl⟩
theorem d_m_residue_196 : DD b_m_residue 196 (.getfield 34) 3 199 := ⟨by decide +kernel, rfl⟩
theorem d_m_residue_199 : DD b_m_residue 199 (.iload 6) 2 201 := ⟨by decide +kernel, rfl⟩
theorem d_m_residue_201 : DD b_m_residue 201 (.aload_n 0) 1 202 := ⟨by decide +kernel, rfl⟩
theorem d_m_residue_202 : DD b_m_residue 202 (.getfield 28) 3 205 := ⟨by decide +kernel, rfl⟩
theorem d_m_residue_205 : DD b_m_residue 205 (.invokevirtual 117) 3 208 := ⟨by decide +kernel, rfl⟩
theorem d_m_residue_208 : DD b_m_residue 208 (.istore 7) 2 210 := ⟨by decide +kernel, rfl⟩
theorem d_m_residue_210 : DD b_m_residue 210 (.iconst 0) 1 211 := ⟨by decide +kernel, rfl⟩
theorem d_m_residue_211 : DD b_m_residue 211 (.istore 11) 2 213 := ⟨by decide +kernel, rfl⟩
theorem d_m_residue_213 : DD b_m_residue 213 (.iload 11) 2 215 := ⟨by decide +kernel, rfl⟩
theorem d_m_residue_215 : DD b_m_residue 215 (.iload 7) 2 217 := ⟨by decide +kernel, rfl⟩
theorem d_m_residue_217 : DB b_m_residue 217 (.if_icmp .ge 23) 23 220 240 := ⟨by decide +kernel, rfl, rfl⟩
theorem d_m_residue_220 : DD b_m_residue 220 (.aload_n 0) 1 221 := ⟨by decide +kernel, rfl⟩
theorem d_m_residue_221 : DD b_m_residue 221 (.getfield 46) 3 224 := ⟨by decide +kernel, rfl⟩
theorem d_m_residue_224 : DD b_m_residue 224 (.iload 11) 2 226 := ⟨by decide +kernel, rfl⟩
theorem d_m_residue_226 : DD b_m_residue 226 (.aload_n 0) 1 227 := ⟨by decide +kernel, rfl⟩
theorem d_m_residue_227 : DD b_m_residue 227 (.getfield 22) 3 230 := ⟨by decide +kernel, rfl⟩
theorem d_m_residue_230 : DD b_m_residue 230 (.iload 11) 2 232 := ⟨by decide +kernel, rfl⟩
theorem d_m_residue_232 : DD b_m_residue 232 .iaload 1 233 := ⟨by decide +kernel, rfl⟩
theorem d_m_residue_233 : DD b_m_residue 233 .iastore 1 234 := ⟨by decide +kernel, rfl⟩
theorem d_m_residue_234 : DD b_m_residue 234 (.iinc 11 1) 3 237 := ⟨by decide +kernel, rfl⟩
theorem d_m_residue_237 : DB b_m_residue 237 (.goto (-24)) (-24) 240 213 := ⟨by decide +kernel, rfl, rfl⟩
theorem d_m_residue_240 : DD b_m_residue 240 (.aload_n 0) 1 241 := ⟨by decide +kernel, rfl⟩
theorem d_m_residue_241 : DD b_m_residue 241 (.getfield 31) 3 244 := ⟨by decide +kernel, rfl⟩
theorem d_m_residue_244 : DD b_m_residue 244 (.iconst 0) 1 245 := ⟨by decide +kernel, rfl⟩
theorem d_m_residue_245 : DD b_m_residue 245 (.iconst 1) 1 246 := ⟨by decide +kernel, rfl⟩
theorem d_m_residue_246 : DD b_m_residue 246 .iastore 1 247 := ⟨by decide +kernel, rfl⟩
theorem d_m_residue_247 : DD b_m_residue 247 (.aload_n 0) 1 248 := ⟨by decide +kernel, rfl⟩
theorem d_m_residue_248 : DD b_m_residue 248 (.aload_n 0) 1 249 := ⟨by decide +kernel, rfl⟩
theorem d_m_residue_249 : DD b_m_residue 249 (.getfield 31) 3 252 := ⟨by decide +kernel, rfl⟩
theorem d_m_residue_252 : DD b_m_residue 252 (.iconst 1) 1 253 := ⟨by decide +kernel, rfl⟩
theorem d_m_residue_253 : DD b_m_residue 253 (.aload_n 0) 1 254 := ⟨by decide +kernel, rfl⟩
theorem d_m_residue_254 : DD b_m_residue 254 (.getfield 34) 3 257 := ⟨by decide +kernel, rfl⟩
theorem d_m_residue_257 : DD b_m_residue 257 (.iload 6) 2 259 := ⟨by decide +kernel, rfl⟩
theorem d_m_residue_259 : DD b_m_residue 259 (.aload_n 0) 1 260 := ⟨by decide +kernel, rfl⟩
theorem d_m_residue_260 : DD b_m_residue 260 (.getfield 28) 3 263 := ⟨by decide +kernel, rfl⟩
theorem d_m_residue_263 : DD b_m_residue 263 (.invokevirtual 117) 3 266 := ⟨by decide +kernel, rfl⟩
theorem d_m_residue_266 : DD b_m_residue 266 (.istore 8) 2 268 := ⟨by decide +kernel, rfl⟩
theorem d_m_residue_268 : DD b_m_residue 268 (.iload 9) 2 270 := ⟨by decide +kernel, rfl⟩
theorem d_m_residue_270 : DD b_m_residue 270 (.iconst 1) 1 271 := ⟨by decide +kernel, rfl⟩
theorem d_m_residue_271 : DD b_m_residue 271 .isub 1 272 := ⟨by decide +kernel, rfl⟩
theorem d_m_residue_272 : DD b_m_residue 272 (.istore 11) 2 274 := ⟨by decide +kernel, rfl⟩
theorem d_m_residue_274 : DD b_m_residue 274 (.iload 11) 2 276 := ⟨by decide +kernel, rfl⟩
theorem d_m_residue_276 : DB b_m_residue 276 (.ifCond .lt 172) 172 279 448 := ⟨by decide +kernel, rfl, rfl⟩
theorem d_m_residue_279 : DD b_m_residue 279 (.aload_n 0) 1 280 := ⟨by decide +kernel, rfl⟩
theorem d_m_residue_280 : DD b_m_residue 280 (.getfield 31) 3 283 := ⟨by decide +kernel, rfl⟩
theorem d_m_residue_283 : DD b_m_residue 283 (.iload 8) 2 285 := ⟨by decide +kernel, rfl⟩
theorem d_m_residue_285 : DD b_m_residue 285 (.aload_n 0) 1 286 := ⟨by decide +kernel, rfl⟩
theorem d_m_residue_286 : DD b_m_residue 286 (.getfield 31) 3 289 := ⟨by decide +kernel, rfl⟩
theorem d_m_residue_289 : DD b_m_residue 289 (.iload 8) 2 291 := ⟨by decide +kernel, rfl⟩
theorem d_m_residue_291 : DD b_m_residue 291 (.aload_n 0) 1 292 := ⟨by decide +kernel, rfl⟩
theorem d_m_residue_292 : DD b_m_residue 292 (.getfield 22) 3 295 := ⟨by decide +kernel, rfl⟩
theorem d_m_residue_295 : DD b_m_residue 295 (.invokestatic 107) 3 298 := ⟨by decide +kernel, rfl⟩
theorem d_m_residue_298 : DD b_m_residue 298 (.istore 8) 2 300 := ⟨by decide +kernel, rfl⟩
theorem d_m_residue_300 : DD b_m_residue 300 (.aload_n 0) 1 301 := ⟨by decide +kernel, rfl⟩
theorem d_m_residue_301 : DD b_m_residue 301 (.aload_n 0) 1 302 := ⟨by decide +kernel, rfl⟩
theorem d_m_residue_302 : DD b_m_residue 302 (.getfield 22) 3 305 := ⟨by decide +kernel, rfl⟩
theorem d_m_residue_305 : DD b_m_residue 305 (.iload 8) 2 307 := ⟨by decide +kernel, rfl⟩
theorem d_m_residue_307 : DD b_m_residue 307 (.aload_n 0) 1 308 := ⟨by decide +kernel, rfl⟩
theorem d_m_residue_308 : DD b_m_residue 308 (.getfield 34) 3 311 := ⟨by decide +kernel, rfl⟩
theorem d_m_residue_311 : DD b_m_residue 311 (.iload 6) 2 313 := ⟨by decide +kernel, rfl⟩
theorem d_m_residue_313 : DD b_m_residue 313 (.aload_n 0) 1 314 := ⟨by decide +kernel, rfl⟩
theorem d_m_residue_314 : DD b_m_residue 314 (.getfield 28) 3 317 := ⟨by decide +kernel, rfl⟩
theorem d_m_residue_317 : DD b_m_residue 317 (.invokevirtual 117) 3 320 := ⟨by decide +kernel, rfl⟩
theorem d_m_residue_320 : DD b_m_residue 320 (.istore 8) 2 322 := ⟨by decide +kernel, rfl⟩
theorem d_m_residue_322 : DD b_m_residue 322 (.iconst 0) 1 323 := ⟨by decide +kernel, rfl⟩
theorem d_m_residue_323 : DD b_m_residue 323 (.istore 12) 2 325 := ⟨by decide +kernel, rfl⟩
theorem d_m_residue_325 : DD b_m_residue 325 (.iload 12) 2 327 := ⟨by decide +kernel, rfl⟩
theorem d_m_residue_327 : DD b_m_residue 327 (.iload 8) 2 329 := ⟨by decide +kernel, rfl⟩
theorem d_m_residue_329 : DB b_m_residue 329 (.if_icmp .ge 23) 23 332 352 := ⟨by decide +kernel, rfl, rfl⟩
theorem d_m_residue_332 : DD b_m_residue 332 (.aload_n 0) 1 333 := ⟨by decide +kernel, rfl⟩
theorem d_m_residue_333 : DD b_m_residue 333 (.getfield 31) 3 336 := ⟨by decide +kernel, rfl⟩
theorem d_m_residue_336 : DD b_m_residue 336 (.iload 12) 2 338 := ⟨by decide +kernel, rfl⟩
theorem d_m_residue_338 : DD b_m_residue 338 (.aload_n 0) 1 339 := ⟨by decide +kernel, rfl⟩
theorem d_m_residue_339 : DD b_m_residue 339 (.getfield 22) 3 342 := ⟨by decide +kernel, rfl⟩
theorem d_m_residue_342 : DD b_m_residue 342 (.iload 12) 2 344 := ⟨by decide +kernel, rfl⟩
theorem d_m_residue_344 : DD b_m_residue 344 .iaload 1 345 := ⟨by decide +kernel, rfl⟩
theorem d_m_residue_345 : DD b_m_residue 345 .iastore 1 346 := ⟨by decide +kernel, rfl⟩
theorem d_m_residue_346 : DD b_m_residue 346 (.iinc 12 1) 3 349 := ⟨by decide +kernel, rfl⟩
theorem d_m_residue_349 : DB b_m_residue 349 (.goto (-24)) (-24) 352 325 := ⟨by decide +kernel, rfl, rfl⟩
theorem d_m_residue_352 : DD b_m_residue 352 (.aload_n 0) 1 353 := ⟨by decide +kernel, rfl⟩
theorem d_m_residue_353 : DD b_m_residue 353 (.getfield 43) 3 356 := ⟨by decide +kernel, rfl⟩
theorem d_m_residue_356 : DD b_m_residue 356 (.iload 5) 2 358 := ⟨by decide +kernel, rfl⟩
theorem d_m_residue_358 : DD b_m_residue 358 (.iload 11) 2 360 := ⟨by decide +kernel, rfl⟩
theorem d_m_residue_360 : DD b_m_residue 360 (.invokestatic 124) 3 363 := ⟨by decide +kernel, rfl⟩
theorem d_m_residue_363 : DB b_m_residue 363 (.ifCond .ne 6) 6 366 369 := ⟨by decide +kernel, rfl, rfl⟩
theorem d_m_residue_366 : DB b_m_residue 366 (.goto 76) 76 369 442 := ⟨by decide +kernel, rfl, rfl⟩
theorem d_m_residue_369 : DD b_m_residue 369 (.aload_n 0) 1 370 := ⟨by decide +kernel, rfl⟩
theorem d_m_residue_370 : DD b_m_residue 370 (.getfield 31) 3 373 := ⟨by decide +kernel, rfl⟩
theorem d_m_residue_373 : DD b_m_residue 373 (.iload 8) 2 375 := ⟨by decide +kernel, rfl⟩
theorem d_m_residue_375 : DD b_m_residue 375 (.aload_n 0) 1 376 := ⟨by decide +kernel, rfl⟩
theorem d_m_residue_376 : DD b_m_residue 376 (.getfield 46) 3 379 := ⟨by decide +kernel, rfl⟩
theorem d_m_residue_379 : DD b_m_residue 379 (.iload 7) 2 381 := ⟨by decide +kernel, rfl⟩
theorem d_m_residue_381 : DD b_m_residue 381 (.aload_n 0) 1 382 := ⟨by decide +kernel, rfl⟩
theorem d_m_residue_382 : DD b_m_residue 382 (.getfield 22) 3 385 := ⟨by decide +kernel, rfl⟩
theorem d_m_residue_385 : DD b_m_residue 385 (.invokestatic 107) 3 388 := ⟨by decide +kernel, rfl⟩
theorem d_m_residue_388 : DD b_m_residue 388 (.istore 8) 2 390 := ⟨by decide +kernel, rfl⟩
theorem d_m_residue_390 : DD b_m_residue 390 (.aload_n 0) 1 391 := ⟨by decide +kernel, rfl⟩
theorem d_m_residue_391 : DD b_m_residue 391 (.aload_n 0) 1 392 := ⟨by decide +kernel, rfl⟩
theorem d_m_residue_392 : DD b_m_residue 392 (.getfield 22) 3 395 := ⟨by decide +kernel, rfl⟩
theorem d_m_residue_395 : DD b_m_residue 395 (.iload 8) 2 397 := ⟨by decide +kernel, rfl⟩
theorem d_m_residue_397 : DD b_m_residue 397 (.aload_n 0) 1 398 := ⟨by decide +kernel, rfl⟩
theorem d_m_residue_398 : DD b_m_residue 398 (.getfield 34) 3 401 := ⟨by decide +kernel, rfl⟩
theorem d_m_residue_401 : DD b_m_residue 401 (.iload 6) 2 403 := ⟨by decide +kernel, rfl⟩
theorem d_m_residue_403 : DD b_m_residue 403 (.aload_n 0) 1 404 := ⟨by decide +kernel, rfl⟩
theorem d_m_residue_404 : DD b_m_residue 404 (.getfield 28) 3 407 := ⟨by decide +kernel, rfl⟩
theorem d_m_residue_407 : DD b_m_residue 407 (.invokevirtual 117) 3 410 := ⟨by decide +kernel, rfl⟩
theorem d_m_residue_410 : DD b_m_residue 410 (.istore 8) 2 412 := ⟨by decide +kernel, rfl⟩
theorem d_m_residue_412 : DD b_m_residue 412 (.iconst 0) 1 413 := ⟨by decide +kernel, rfl⟩
theorem d_m_residue_413 : DD b_m_residue 413 (.istore 12) 2 415 := ⟨by decide +kernel, rfl⟩
theorem d_m_residue_415 : DD b_m_residue 415 (.iload 12) 2 417 := ⟨by decide +kernel, rfl⟩
theorem d_m_residue_417 : DD b_m_residue 417 (.iload 8) 2 419 := ⟨by decide +kernel, rfl⟩
theorem d_m_residue_419 : DB b_m_residue 419 (.if_icmp .ge 23) 23 422 442 := ⟨by decide +kernel, rfl, rfl⟩
theorem d_m_residue_422 : DD b_m_residue 422 (.aload_n 0) 1 423 := ⟨by decide +kernel, rfl⟩
theorem d_m_residue_423 : DD b_m_residue 423 (.getfield 31) 3 426 := ⟨by decide +kernel, rfl⟩
theorem d_m_residue_426 : DD b_m_residue 426 (.iload 12) 2 428 := ⟨by decide +kernel, rfl⟩
theorem d_m_residue_428 : DD b_m_residue 428 (.aload_n 0) 1 429 := ⟨by decide +kernel, rfl⟩
theorem d_m_residue_429 : DD b_m_residue 429 (.getfield 22) 3 432 := ⟨by decide +kernel, rfl⟩
theorem d_m_residue_432 : DD b_m_residue 432 (.iload 12) 2 434 := ⟨by decide +kernel, rfl⟩
theorem d_m_residue_434 : DD b_m_residue 434 .iaload 1 435 := ⟨by decide +kernel, rfl⟩
theorem d_m_residue_435 : DD b_m_residue 435 .iastore 1 436 := ⟨by decide +kernel, rfl⟩
theorem d_m_residue_436 : DD b_m_residue 436 (.iinc 12 1) 3 439 := ⟨by decide +kernel, rfl⟩
theorem d_m_residue_439 : DB b_m_residue 439 (.goto (-24)) (-24) 442 415 := ⟨by decide +kernel, rfl, rfl⟩
theorem d_m_residue_442 : DD b_m_residue 442 (.iinc 11 (-1)) 3 445 := ⟨by decide +kernel, rfl⟩
theorem d_m_residue_445 : DB b_m_residue 445 (.goto (-171)) (-171) 448 274 := ⟨by decide +kernel, rfl, rfl⟩
theorem d_m_residue_448 : DD b_m_residue 448 (.iload 8) 2 450 := ⟨by decide +kernel, rfl⟩
theorem d_m_residue_450 : DB b_m_residue 450 (.ifCond .le 27) 27 453 477 := ⟨by decide +kernel, rfl, rfl⟩
theorem d_m_residue_453 : DD b_m_residue 453 (.iload 10) 2 455 := ⟨by decide +kernel, rfl⟩
theorem d_m_residue_455 : DD b_m_residue 455 (.aload_n 0) 1 456 := ⟨by decide +kernel, rfl⟩
theorem d_m_residue_456 : DD b_m_residue 456 (.getfield 16) 3 459 := ⟨by decide +kernel, rfl⟩
theorem d_m_residue_459 : DD b_m_residue 459 (.iload 4) 2 461 := ⟨by decide +kernel, rfl⟩
theorem d_m_residue_461 : DD b_m_residue 461 .iaload 1 462 := ⟨by decide +kernel, rfl⟩
theorem d_m_residue_462 : DB b_m_residue 462 (.ifCond .ge 7) 7 465 469 := ⟨by decide +kernel, rfl, rfl⟩
theorem d_m_residue_465 : DD b_m_residue 465 (.iconst 1) 1 466 := ⟨by decide +kernel, rfl⟩
theorem d_m_residue_466 : DB b_m_residue 466 (.goto 4) 4 469 470 := ⟨by decide +kernel, rfl, rfl⟩
theorem d_m_residue_469 : DD b_m_residue 469 (.iconst 0) 1 470 := ⟨by decide +kernel, rfl⟩
theorem d_m_residue_470 : DB b_m_residue 470 (.if_icmp .eq 7) 7 473 477 := ⟨by decide +kernel, rfl, rfl⟩
theorem d_m_residue_473 : DD b_m_residue 473 (.iconst 1) 1 474 := ⟨by decide +kernel, rfl⟩
theorem d_m_residue_474 : DB b_m_residue 474 (.goto 4) 4 477 478 := ⟨by decide +kernel, rfl, rfl⟩
theorem d_m_residue_477 : DD b_m_residue 477 (.iconst 0) 1 478 := ⟨by decide +kernel, rfl⟩
theorem d_m_residue_478 : DD b_m_residue 478 (.istore 11) 2 480 := ⟨by decide +kernel, rfl⟩
theorem d_m_residue_480 : DD b_m_residue 480 (.iload 11) 2 482 := ⟨by decide +kernel, rfl⟩
theorem d_m_residue_482 : DB b_m_residue 482 (.ifCond .eq 47) 47 485 529 := ⟨by decide +kernel, rfl, rfl⟩
theorem d_m_residue_485 : DD b_m_residue 485 (.aload_n 0) 1 486 := ⟨by decide +kernel, rfl⟩
theorem d_m_residue_486 : DD b_m_residue 486 (.getfield 34) 3 489 := ⟨by decide +kernel, rfl⟩
theorem d_m_residue_489 : DD b_m_residue 489 (.iload 6) 2 491 := ⟨by decide +kernel, rfl⟩
theorem d_m_residue_491 : DD b_m_residue 491 (.aload_n 0) 1 492 := ⟨by decide +kernel, rfl⟩
theorem d_m_residue_492 : DD b_m_residue 492 (.getfield 31) 3 495 := ⟨by decide +kernel, rfl⟩
theorem d_m_residue_495 : DD b_m_residue 495 (.iload 8) 2 497 := ⟨by decide +kernel, rfl⟩
theorem d_m_residue_497 : DD b_m_residue 497 (.aload_n 0) 1 498 := ⟨by decide +kernel, rfl⟩
theorem d_m_residue_498 : DD b_m_residue 498 (.getfield 28) 3 501 := ⟨by decide +kernel, rfl⟩
theorem d_m_residue_501 : DD b_m_residue 501 (.invokestatic 114) 3 504 := ⟨by decide +kernel, rfl⟩
theorem d_m_residue_504 : DD b_m_residue 504 (.istore 8) 2 506 := ⟨by decide +kernel, rfl⟩
theorem d_m_residue_506 : DD b_m_residue 506 (.aload_n 0) 1 507 := ⟨by decide +kernel, rfl⟩
theorem d_m_residue_507 : DD b_m_residue 507 (.iload_n 1) 1 508 := ⟨by decide +kernel, rfl⟩
theorem d_m_residue_508 : DD b_m_residue 508 (.aload_n 0) 1 509 := ⟨by decide +kernel, rfl⟩
theorem d_m_residue_509 : DD b_m_residue 509 (.getfield 16) 3 512 := ⟨by decide +kernel, rfl⟩
theorem d_m_residue_512 : DD b_m_residue 512 (.iload 4) 2 514 := ⟨by decide +kernel, rfl⟩
theorem d_m_residue_514 : DD b_m_residue 514 .iaload 1 515 := ⟨by decide +kernel, rfl⟩
theorem d_m_residue_515 : DD b_m_residue 515 (.aload_n 0) 1 516 := ⟨by decide +kernel, rfl⟩
theorem d_m_residue_516 : DD b_m_residue 516 (.getfield 28) 3 519 := ⟨by decide +kernel, rfl⟩
theorem d_m_residue_519 : DD b_m_residue 519 (.iload 8) 2 521 := ⟨by decide +kernel, rfl⟩
theorem d_m_residue_521 : DD b_m_residue 521 (.iconst 2) 1 522 := ⟨by decide +kernel, rfl⟩
theorem d_m_residue_522 : DD b_m_residue 522 (.invokevirtual 91) 3 525 := ⟨by decide +kernel, rfl⟩
theorem d_m_residue_525 : DD b_m_residue 525 .pop 1 526 := ⟨by decide +kernel, rfl⟩
theorem d_m_residue_526 : DB b_m_residue 526 (.goto 23) 23 529 549 := ⟨by decide +kernel, rfl, rfl⟩
theorem d_m_residue_529 : DD b_m_residue 529 (.aload_n 0) 1 530 := ⟨by decide +kernel, rfl⟩
theorem d_m_residue_530 : DD b_m_residue 530 (.iload_n 1) 1 531 := ⟨by decide +kernel, rfl⟩
theorem d_m_residue_531 : DD b_m_residue 531 (.aload_n 0) 1 532 := ⟨by decide +kernel, rfl⟩
theorem d_m_residue_532 : DD b_m_residue 532 (.getfield 16) 3 535 := ⟨by decide +kernel, rfl⟩
theorem d_m_residue_535 : DD b_m_residue 535 (.iload 4) 2 537 := ⟨by decide +kernel, rfl⟩
theorem d_m_residue_537 : DD b_m_residue 537 .iaload 1 538 := ⟨by decide +kernel, rfl⟩
theorem d_m_residue_538 : DD b_m_residue 538 (.aload_n 0) 1 539 := ⟨by decide +kernel, rfl⟩
theorem d_m_residue_539 : DD b_m_residue 539 (.getfield 31) 3 542 := ⟨by decide +kernel, rfl⟩
theorem d_m_residue_542 : DD b_m_residue 542 (.iload 8) 2 544 := ⟨by decide +kernel, rfl⟩
theorem d_m_residue_544 : DD b_m_residue 544 (.iconst 2) 1 545 := ⟨by decide +kernel, rfl⟩
theorem d_m_residue_545 : DD b_m_residue 545 (.invokevirtual 91) 3 548 := ⟨by decide +kernel, rfl⟩
theorem d_m_residue_548 : DD b_m_residue 548 .pop 1 549 := ⟨by decide +kernel, rfl⟩
theorem d_m_residue_549 : DD b_m_residue 549 (.aload_n 0) 1 550 := ⟨by decide +kernel, rfl⟩
theorem d_m_residue_550 : DD b_m_residue 550 (.getfield 16) 3 553 := ⟨by decide +kernel, rfl⟩
theorem d_m_residue_553 : DD b_m_residue 553 (.iload_n 1) 1 554 := ⟨by decide +kernel, rfl⟩
theorem d_m_residue_554 : DD b_m_residue 554 .iaload 1 555 := ⟨by decide +kernel, rfl⟩
theorem d_m_residue_555 : DD b_m_residue 555 .ireturn 1 556 := ⟨by decide +kernel, rfl⟩
set_option maxRecDepth 20000 in
set_option maxHeartbeats 4000000 in
theorem c_m_residue (l : Launch) (G : ZG) {p0 p1 p2 p3 : Int} {σ : Mem} {K : Int → Mem → Prop} (h : wp_m_residue p0 p1 p2 p3 σ K) (h_p0 : okI p0) (h_p1 : okI p1) (h_p2 : okI p2) (h_p3 : okI p3) : Ct l G y_m_residue (.code y_m_residue b_m_residue 13 (some .int)) { frames := 2, cells := 0, slots := 0, locals := 61 } 0 0 1 [.ref (zA G 45), .int (iI p0), .int (iI p1), .int (iI p2), .int (iI p3)] σ K (fun _ _ => False) := by
  unfold wp_m_residue at h
  refine Ct.ofZ [(0, .ref (zA G 45)), (1, .int (iI p0)), (2, .int (iI p1)), (3, .int (iI p2)), (4, .int (iI p3))] "LimbDeskModel" (by decide) rfl (Nat.le_of_ble_eq_true rfl) rfl ?_
  intro E hR hlE C hr hX
  subst hlE
  have hroom_m_bits0 : 0 + 1 ≤ (zR E).frames ∧ 8 + (4 + 11) + 0 ≤ (zR E).locals ∧ 0 + 0 ≤ (zR E).cells ∧ 0 + 0 ≤ (zR E).slots := by rw [hR]; decide
  have hroom_m_divided : 1 + 1 ≤ (zR E).frames ∧ 8 + (18 + 11) + 24 ≤ (zR E).locals ∧ 0 + 0 ≤ (zR E).cells ∧ 0 + 0 ≤ (zR E).slots := by rw [hR]; decide
  have hroom_m_fails : 0 + 1 ≤ (zR E).frames ∧ 8 + (3 + 11) + 0 ≤ (zR E).locals ∧ 0 + 0 ≤ (zR E).cells ∧ 0 + 0 ≤ (zR E).slots := by rw [hR]; decide
  have hroom_m_isBit : 0 + 1 ≤ (zR E).frames ∧ 8 + (3 + 11) + 0 ≤ (zR E).locals ∧ 0 + 0 ≤ (zR E).cells ∧ 0 + 0 ≤ (zR E).slots := by rw [hR]; decide
  have hroom_m_isRegister : 1 + 1 ≤ (zR E).frames ∧ 8 + (1 + 11) + 22 ≤ (zR E).locals ∧ 0 + 0 ≤ (zR E).cells ∧ 0 + 0 ≤ (zR E).slots := by rw [hR]; decide
  have hroom_m_keep : 1 + 1 ≤ (zR E).frames ∧ 8 + (8 + 11) + 23 ≤ (zR E).locals ∧ 0 + 0 ≤ (zR E).cells ∧ 0 + 0 ≤ (zR E).slots := by rw [hR]; decide
  have hroom_m_less : 1 + 1 ≤ (zR E).frames ∧ 8 + (7 + 11) + 22 ≤ (zR E).locals ∧ 0 + 0 ≤ (zR E).cells ∧ 0 + 0 ≤ (zR E).slots := by rw [hR]; decide
  have hroom_m_load : 0 + 1 ≤ (zR E).frames ∧ 8 + (4 + 11) + 0 ≤ (zR E).locals ∧ 0 + 0 ≤ (zR E).cells ∧ 0 + 0 ≤ (zR E).slots := by rw [hR]; decide
  have hroom_m_times : 1 + 1 ≤ (zR E).frames ∧ 8 + (9 + 11) + 22 ≤ (zR E).locals ∧ 0 + 0 ≤ (zR E).cells ∧ 0 + 0 ≤ (zR E).slots := by rw [hR]; decide
  clear hR
  obtain ⟨Q, hQ⟩ : ∃ Q, Q = MQX G (zb E) 1 K (fun _ _ => False) (zs E) 0 0 0 0 := ⟨_, rfl⟩
  show Z E G 13 0 0 (MQX G (zb E) 1 K (fun _ _ => False) (zs E) 0 0 0 0) σ 0 [(0, .ref (zA G 45)), (1, .int (iI p0)), (2, .int (iI p1)), (3, .int (iI p2)), (4, .int (iI p3))] []
  rw [← hQ]
  refine z_aload_n C 0 d_m_residue_0 rfl ?_
  refine z_iconst C d_m_residue_1 ?_
  refine z_mput_err C d_m_residue_2 k_460 ?_
  refine z_aload_n C 0 d_m_residue_5 rfl ?_
  refine z_iload_n C 1 d_m_residue_6 rfl ?_
  refine z_callS C [.int (iI p0)] [.ref (zA G 45)] 1 d_m_residue_7 (c_m_isRegister (zl E) G h h_p0) k_519 k_517 k_518 k_3 (by decide)  (by decide +kernel) rfl rfl (Nat.le_of_ble_eq_true rfl) hroom_m_isRegister (fun r1 _s154 ok2 hq => ?_) (fun _ _ hx => hx.elim)
  obtain ⟨hs_, hk_⟩ := hq
  subst hs_
  have h := hk_
  refine Jq1.walk (fun s3 => okI s3 → Z E G 13 0 0 Q (mS σ 45 0 0) 49 [(0, .ref (zA G 45)), (1, .int (iI p0)), (2, .int (iI p1)), (3, .int (iI p2)), (4, .int (iI p3))] [.int (iI s3), .ref (zA G 45)]) h ?_ ?_
  · intro s3 h ok4
    refine z_iconst C d_m_residue_49 ?_
    refine z_callV C "LimbDeskModel" [.int (iI s3), .int (iI 1)] [] 2 d_m_residue_50 (c_m_fails (zl E) G h ok4 (okI_lit rfl)) k_526 k_523 k_525 k_s6 k_3 (by decide) (recv_M C) (by decide +kernel) rfl rfl (Nat.le_of_ble_eq_true rfl) hroom_m_fails (fun r6 σ7 ok8 hq => ?_) (fun _ _ hx => hx.elim)
    have h := hq
    refine z_if_ne C d_m_residue_53 (okI_b ok8) (fun hb9 => ?_) (fun hb9 => ?_)
    · have h := h.1 hb9
      refine z_iconst C d_m_residue_79 ?_
      subst hQ
      exact z_ireturn C d_m_residue_80.1 hr ⟨Nat.zero_le _, Nat.zero_le _⟩ (okI_lit rfl) h
    · have h := h.2 hb9
      refine z_aload_n C 0 d_m_residue_56 rfl ?_
      refine z_aload_n C 0 d_m_residue_57 rfl ?_
      refine z_mget C 4 d_m_residue_58 (by decide) k_464 rfl rfl ?_
      refine z_iload C 4 d_m_residue_61 rfl ?_
      obtain ⟨hc10, h⟩ := h
      refine z_ialdN C (16) d_m_residue_63 (Or.inr ⟨by decide, by decide⟩) (by decide) hc10 ?_
      obtain ⟨ok11, h⟩ := h
      have hj : ∀ s13 : Int, s13 = (if (σ7 48 p3) ≠ 0 then 0 else 1) → Z E G 13 0 0 Q σ7 72 [(0, .ref (zA G 45)), (1, .int (iI p0)), (2, .int (iI p1)), (3, .int (iI p2)), (4, .int (iI p3))] [.int (iI s13), .ref (zA G 45)] := by
        intro s13 e14
        have h := h s13 e14
        have ok15 : okI s13 := by rw [e14]; split; exact (okI_lit rfl); exact (okI_lit rfl)
        refine z_iconst C d_m_residue_72 ?_
        refine z_callV C "LimbDeskModel" [.int (iI s13), .int (iI 2)] [] 2 d_m_residue_73 (c_m_fails (zl E) G h ok15 (okI_lit rfl)) k_526 k_523 k_525 k_s6 k_3 (by decide) (recv_M C) (by decide +kernel) rfl rfl (Nat.le_of_ble_eq_true rfl) hroom_m_fails (fun r16 σ17 ok18 hq => ?_) (fun _ _ hx => hx.elim)
        have h := hq
        refine z_if_eq C d_m_residue_76 (okI_b ok18) (fun hb19 => ?_) (fun hb19 => ?_)
        · have h := h.1 hb19
          refine z_aload_n C 0 d_m_residue_81 rfl ?_
          refine z_iload_n C 3 d_m_residue_82 rfl ?_
          refine z_aload_n C 0 d_m_residue_83 rfl ?_
          refine z_mget C 11 d_m_residue_84 (by decide) k_471 rfl rfl ?_
          refine z_callV C "LimbDeskModel" [.int (iI p2), .ref (zA G 55)] [] 2 d_m_residue_87 (c_m_load (zl E) G h h_p2 (Or.inr ⟨by decide, by decide⟩)) k_534 k_531 k_533 k_s8 k_3 (by decide) (recv_M C) (by decide +kernel) rfl rfl (Nat.le_of_ble_eq_true rfl) hroom_m_load (fun r20 σ21 ok22 hq => ?_) (fun _ _ hx => hx.elim)
          have h := hq
          refine z_istore C [(5, .int (iI r20)), (0, .ref (zA G 45)), (1, .int (iI p0)), (2, .int (iI p1)), (3, .int (iI p2)), (4, .int (iI p3))] d_m_residue_90 (by decide) rfl ?_
          refine z_aload_n C 1 d_m_residue_92 rfl ?_
          refine z_iload C 5 d_m_residue_93 rfl ?_
          refine z_aload_n C 1 d_m_residue_95 rfl ?_
          refine z_mget C 10 d_m_residue_96 (by decide) k_470 rfl rfl ?_
          refine z_callV C "LimbDeskModel" [.int (iI p3), .ref (zA G 54)] [] 2 d_m_residue_99 (c_m_load (zl E) G h h_p3 (Or.inr ⟨by decide, by decide⟩)) k_534 k_531 k_533 k_s8 k_3 (by decide) (recv_M C) (by decide +kernel) rfl rfl (Nat.le_of_ble_eq_true rfl) hroom_m_load (fun r23 σ24 ok25 hq => ?_) (fun _ _ hx => hx.elim)
          have h := hq
          refine z_istore C [(6, .int (iI r23)), (5, .int (iI r20)), (0, .ref (zA G 45)), (1, .int (iI p0)), (2, .int (iI p1)), (3, .int (iI p2)), (4, .int (iI p3))] d_m_residue_102 (by decide) rfl ?_
          refine z_aload_n C 2 d_m_residue_104 rfl ?_
          refine z_iload_n C 4 d_m_residue_105 rfl ?_
          refine z_aload_n C 2 d_m_residue_106 rfl ?_
          refine z_mget C 6 d_m_residue_107 (by decide) k_466 rfl rfl ?_
          refine z_callV C "LimbDeskModel" [.int (iI p1), .ref (zA G 50)] [] 2 d_m_residue_110 (c_m_load (zl E) G h h_p1 (Or.inr ⟨by decide, by decide⟩)) k_534 k_531 k_533 k_s8 k_3 (by decide) (recv_M C) (by decide +kernel) rfl rfl (Nat.le_of_ble_eq_true rfl) hroom_m_load (fun r26 σ27 ok28 hq => ?_) (fun _ _ hx => hx.elim)
          have h := hq
          refine z_istore C [(7, .int (iI r26)), (6, .int (iI r23)), (5, .int (iI r20)), (0, .ref (zA G 45)), (1, .int (iI p0)), (2, .int (iI p1)), (3, .int (iI p2)), (4, .int (iI p3))] d_m_residue_113 (by decide) rfl ?_
          refine z_iconst C d_m_residue_115 ?_
          refine z_istore C [(8, .int (iI 1)), (7, .int (iI r26)), (6, .int (iI r23)), (5, .int (iI r20)), (0, .ref (zA G 45)), (1, .int (iI p0)), (2, .int (iI p1)), (3, .int (iI p2)), (4, .int (iI p3))] d_m_residue_116 (by decide) rfl ?_
          refine z_aload_n C 4 d_m_residue_118 rfl ?_
          refine z_mget C 11 d_m_residue_119 (by decide) k_471 rfl rfl ?_
          refine z_iload C 3 d_m_residue_122 rfl ?_
          refine z_callS C [.ref (zA G 55), .int (iI r20)] [] 2 d_m_residue_124 (c_m_bits0 (zl E) G h (Or.inr ⟨by decide, by decide⟩) ok22) k_537 k_535 k_536 k_3 (by decide)  (by decide +kernel) rfl rfl (Nat.le_of_ble_eq_true rfl) hroom_m_bits0 (fun r29 _s136 ok30 hq => ?_) (fun _ _ hx => hx.elim)
          obtain ⟨hs_, hk_⟩ := hq
          subst hs_
          have h := hk_
          refine z_istore C [(9, .int (iI r29)), (8, .int (iI 1)), (7, .int (iI r26)), (6, .int (iI r23)), (5, .int (iI r20)), (0, .ref (zA G 45)), (1, .int (iI p0)), (2, .int (iI p1)), (3, .int (iI p2)), (4, .int (iI p3))] d_m_residue_127 (by decide) rfl ?_
          refine z_aload_n C 5 d_m_residue_129 rfl ?_
          refine z_mget C 4 d_m_residue_130 (by decide) k_464 rfl rfl ?_
          refine z_iload_n C 7 d_m_residue_133 rfl ?_
          obtain ⟨hc31, h⟩ := h
          refine z_ialdN C (16) d_m_residue_134 (Or.inr ⟨by decide, by decide⟩) (by decide) hc31 ?_
          obtain ⟨ok32, h⟩ := h
          refine Jq1.walk (fun s33 => okI s33 → Z E G 13 0 0 Q σ27 156 [(0, .ref (zA G 45)), (1, .int (iI p0)), (4, .int (iI p3)), (5, .int (iI r20)), (6, .int (iI r23)), (7, .int (iI r26)), (9, .int (iI r29))] [.int (iI s33)]) h ?_ ?_
          · intro s33 h ok34
            refine z_istore C [(10, .int (iI s33)), (0, .ref (zA G 45)), (1, .int (iI p0)), (4, .int (iI p3)), (5, .int (iI r20)), (6, .int (iI r23)), (7, .int (iI r26)), (9, .int (iI r29))] d_m_residue_156 (by decide) rfl ?_
            refine z_iconst C d_m_residue_158 ?_
            refine z_istore C [(11, .int (iI 0)), (10, .int (iI s33)), (0, .ref (zA G 45)), (1, .int (iI p0)), (4, .int (iI p3)), (5, .int (iI r20)), (6, .int (iI r23)), (7, .int (iI r26)), (9, .int (iI r29))] d_m_residue_159 (by decide) rfl ?_
            refine z_sub [(0, .ref (zA G 45)), (1, .int (iI p0)), (4, .int (iI p3)), (5, .int (iI r20)), (6, .int (iI r23)), (7, .int (iI r26)), (9, .int (iI r29)), (10, .int (iI s33)), (11, .int (iI 0))] [2, 3, 4, 5, 6, 7, 8, 1, 0] rfl ?_
            refine (Lo1.walk (P := fun v11_36 σ37 => okI v11_36 → Z E G 13 0 0 Q σ37 161 [(0, .ref (zA G 45)), (1, .int (iI p0)), (4, .int (iI p3)), (5, .int (iI r20)), (6, .int (iI r23)), (7, .int (iI r26)), (9, .int (iI r29)), (10, .int (iI s33)), (11, .int (iI v11_36))] []) ?_ h) (okI_lit rfl)
            intro v11_36 σ37 again39 Hagain39 h ok38
            refine z_iload C 8 d_m_residue_161 rfl ?_
            refine z_iload C 3 d_m_residue_163 rfl ?_
            refine z_icmp_ge C d_m_residue_165 ok38 ok22 (fun hb40 => ?_) (fun hb40 => ?_)
            · have h := h.1 hb40
              refine z_aload_n C 0 d_m_residue_188 rfl ?_
              refine z_aload_n C 0 d_m_residue_189 rfl ?_
              refine z_mget C 6 d_m_residue_190 (by decide) k_466 rfl rfl ?_
              refine z_iload C 5 d_m_residue_193 rfl ?_
              refine z_aload_n C 0 d_m_residue_195 rfl ?_
              refine z_mget C 10 d_m_residue_196 (by decide) k_470 rfl rfl ?_
              refine z_iload C 4 d_m_residue_199 rfl ?_
              refine z_aload_n C 0 d_m_residue_201 rfl ?_
              refine z_mget C 8 d_m_residue_202 (by decide) k_468 rfl rfl ?_
              refine z_callV C "LimbDeskModel" [.ref (zA G 50), .int (iI r26), .ref (zA G 54), .int (iI r23), .ref (zA G 52)] [] 5 d_m_residue_205 (c_m_divided (zl E) G h (Or.inr ⟨by decide, by decide⟩) ok28 (Or.inr ⟨by decide, by decide⟩) ok25 (Or.inr ⟨by decide, by decide⟩)) k_593 k_590 k_592 k_s10 k_3 (by decide) (recv_M C) (by decide +kernel) rfl rfl (Nat.le_of_ble_eq_true rfl) hroom_m_divided (fun r41 σ42 ok43 hq => ?_) (fun _ _ hx => hx.elim)
              have h := hq
              refine z_istore C [(7, .int (iI r41)), (0, .ref (zA G 45)), (1, .int (iI p0)), (4, .int (iI p3)), (5, .int (iI r20)), (6, .int (iI r23)), (9, .int (iI r29)), (10, .int (iI s33)), (11, .int (iI v11_36))] d_m_residue_208 (by decide) rfl ?_
              refine z_iconst C d_m_residue_210 ?_
              refine z_istore C [(11, .int (iI 0)), (7, .int (iI r41)), (0, .ref (zA G 45)), (1, .int (iI p0)), (4, .int (iI p3)), (5, .int (iI r20)), (6, .int (iI r23)), (9, .int (iI r29)), (10, .int (iI s33))] d_m_residue_211 (by decide) rfl ?_
              refine z_sub [(0, .ref (zA G 45)), (1, .int (iI p0)), (4, .int (iI p3)), (5, .int (iI r20)), (6, .int (iI r23)), (7, .int (iI r41)), (9, .int (iI r29)), (10, .int (iI s33)), (11, .int (iI 0))] [2, 3, 4, 5, 6, 1, 7, 8, 0] rfl ?_
              refine (Lo1.walk (P := fun v11_44 σ45 => okI v11_44 → Z E G 13 0 0 Q σ45 213 [(0, .ref (zA G 45)), (1, .int (iI p0)), (4, .int (iI p3)), (5, .int (iI r20)), (6, .int (iI r23)), (7, .int (iI r41)), (9, .int (iI r29)), (10, .int (iI s33)), (11, .int (iI v11_44))] []) ?_ h) (okI_lit rfl)
              intro v11_44 σ45 again47 Hagain47 h ok46
              refine z_iload C 8 d_m_residue_213 rfl ?_
              refine z_iload C 5 d_m_residue_215 rfl ?_
              refine z_icmp_ge C d_m_residue_217 ok46 ok43 (fun hb48 => ?_) (fun hb48 => ?_)
              · have h := h.1 hb48
                refine z_aload_n C 0 d_m_residue_240 rfl ?_
                refine z_mget C 9 d_m_residue_241 (by decide) k_469 rfl rfl ?_
                refine z_iconst C d_m_residue_244 ?_
                refine z_iconst C d_m_residue_245 ?_
                refine z_iastN C (9000) d_m_residue_246 (Or.inr ⟨by decide, by decide⟩) (by decide) ⟨by decide, by decide⟩ ?_
                refine z_aload_n C 0 d_m_residue_247 rfl ?_
                refine z_aload_n C 0 d_m_residue_248 rfl ?_
                refine z_mget C 9 d_m_residue_249 (by decide) k_469 rfl rfl ?_
                refine z_iconst C d_m_residue_252 ?_
                refine z_aload_n C 0 d_m_residue_253 rfl ?_
                refine z_mget C 10 d_m_residue_254 (by decide) k_470 rfl rfl ?_
                refine z_iload C 4 d_m_residue_257 rfl ?_
                refine z_aload_n C 0 d_m_residue_259 rfl ?_
                refine z_mget C 8 d_m_residue_260 (by decide) k_468 rfl rfl ?_
                refine z_callV C "LimbDeskModel" [.ref (zA G 53), .int (iI 1), .ref (zA G 54), .int (iI r23), .ref (zA G 52)] [] 5 d_m_residue_263 (c_m_divided (zl E) G h (Or.inr ⟨by decide, by decide⟩) (okI_lit rfl) (Or.inr ⟨by decide, by decide⟩) ok25 (Or.inr ⟨by decide, by decide⟩)) k_593 k_590 k_592 k_s10 k_3 (by decide) (recv_M C) (by decide +kernel) rfl rfl (Nat.le_of_ble_eq_true rfl) hroom_m_divided (fun r49 σ50 ok51 hq => ?_) (fun _ _ hx => hx.elim)
                have h := hq
                refine z_istore C [(8, .int (iI r49)), (0, .ref (zA G 45)), (1, .int (iI p0)), (4, .int (iI p3)), (5, .int (iI r20)), (6, .int (iI r23)), (7, .int (iI r41)), (9, .int (iI r29)), (10, .int (iI s33)), (11, .int (iI v11_44))] d_m_residue_266 (by decide) rfl ?_
                refine z_iload C 7 d_m_residue_268 rfl ?_
                refine z_iconst C d_m_residue_270 ?_
                refine z_isub C d_m_residue_271 ?_
                refine z_namei (fun v11_52 e53 => ?_)
                have h := h v11_52 e53
                refine z_istore C [(11, .int (iI v11_52)), (8, .int (iI r49)), (0, .ref (zA G 45)), (1, .int (iI p0)), (4, .int (iI p3)), (5, .int (iI r20)), (6, .int (iI r23)), (7, .int (iI r41)), (9, .int (iI r29)), (10, .int (iI s33))] d_m_residue_272 (by decide) rfl ?_
                obtain ⟨ok56, h⟩ := h
                refine z_sub [(0, .ref (zA G 45)), (1, .int (iI p0)), (4, .int (iI p3)), (5, .int (iI r20)), (6, .int (iI r23)), (7, .int (iI r41)), (8, .int (iI r49)), (10, .int (iI s33)), (11, .int (iI v11_52))] [2, 3, 4, 5, 6, 7, 1, 9, 0] rfl ?_
                refine (Lo2.walk (P := fun v8_54 v11_55 σ57 => okI v8_54 → okI v11_55 → Z E G 13 0 0 Q σ57 274 [(0, .ref (zA G 45)), (1, .int (iI p0)), (4, .int (iI p3)), (5, .int (iI r20)), (6, .int (iI r23)), (7, .int (iI r41)), (8, .int (iI v8_54)), (10, .int (iI s33)), (11, .int (iI v11_55))] []) ?_ h) ok51 ok56
                intro v8_54 v11_55 σ57 again60 Hagain60 h ok58 ok59
                refine z_iload C 8 d_m_residue_274 rfl ?_
                refine z_if_lt C d_m_residue_276 ok59 (fun hb61 => ?_) (fun hb61 => ?_)
                · have h := h.1 hb61
                  refine z_iload C 6 d_m_residue_448 rfl ?_
                  refine Jq1.walk (fun s62 => okI s62 → Z E G 13 0 0 Q σ57 478 [(0, .ref (zA G 45)), (1, .int (iI p0)), (4, .int (iI p3)), (6, .int (iI r23)), (8, .int (iI v8_54))] [.int (iI s62)]) h ?_ ?_
                  · intro s62 h ok63
                    refine z_istore C [(11, .int (iI s62)), (0, .ref (zA G 45)), (1, .int (iI p0)), (4, .int (iI p3)), (6, .int (iI r23)), (8, .int (iI v8_54))] d_m_residue_478 (by decide) rfl ?_
                    refine z_iload C 0 d_m_residue_480 rfl ?_
                    refine Jo0.walk (fun σ65 => Z E G 13 0 0 Q σ65 549 [(0, .ref (zA G 45)), (1, .int (iI p0))] []) h ?_ ?_
                    · intro σ65 h
                      refine z_aload_n C 0 d_m_residue_549 rfl ?_
                      refine z_mget C 4 d_m_residue_550 (by decide) k_464 rfl rfl ?_
                      refine z_iload_n C 1 d_m_residue_553 rfl ?_
                      obtain ⟨hc67, h⟩ := h
                      refine z_ialdN C (16) d_m_residue_554 (Or.inr ⟨by decide, by decide⟩) (by decide) hc67 ?_
                      obtain ⟨ok68, h⟩ := h
                      subst hQ
                      exact z_ireturn C d_m_residue_555.1 hr ⟨Nat.zero_le _, Nat.zero_le _⟩ ok68 h
                    · intro J66 HJ66 h
                      refine z_if_eq C d_m_residue_482 ok63 (fun hb69 => ?_) (fun hb69 => ?_)
                      · have h := h.1 hb69
                        refine z_aload_n C 1 d_m_residue_529 rfl ?_
                        refine z_iload_n C 2 d_m_residue_530 rfl ?_
                        refine z_aload_n C 1 d_m_residue_531 rfl ?_
                        refine z_mget C 4 d_m_residue_532 (by decide) k_464 rfl rfl ?_
                        refine z_iload C 3 d_m_residue_535 rfl ?_
                        refine z_ialdN C (16) d_m_residue_537 (Or.inr ⟨by decide, by decide⟩) (by decide) hc10 ?_
                        refine z_aload_n C 1 d_m_residue_538 rfl ?_
                        refine z_mget C 9 d_m_residue_539 (by decide) k_469 rfl rfl ?_
                        refine z_iload C 5 d_m_residue_542 rfl ?_
                        refine z_iconst C d_m_residue_544 ?_
                        obtain ⟨ok70, h⟩ := h
                        refine z_callV C "LimbDeskModel" [.int (iI p0), .int (iI (σ57 48 p3)), .ref (zA G 53), .int (iI v8_54), .int (iI 2)] [] 5 d_m_residue_545 (c_m_keep (zl E) G h h_p0 ok70 (Or.inr ⟨by decide, by decide⟩) ok58 (okI_lit rfl)) k_542 k_539 k_541 k_s9 k_3 (by decide) (recv_M C) (by decide +kernel) rfl rfl (Nat.le_of_ble_eq_true rfl) hroom_m_keep (fun r71 σ72 ok73 hq => ?_) (fun _ _ hx => hx.elim)
                        have h := hq
                        refine z_pop C d_m_residue_548 rfl ?_
                        refine z_sub [(0, .ref (zA G 45)), (1, .int (iI p0))] [1, 2] rfl ?_
                        exact HJ66 _ h
                      · have h := h.2 hb69
                        refine z_aload_n C 1 d_m_residue_485 rfl ?_
                        refine z_mget C 10 d_m_residue_486 (by decide) k_470 rfl rfl ?_
                        refine z_iload C 4 d_m_residue_489 rfl ?_
                        refine z_aload_n C 1 d_m_residue_491 rfl ?_
                        refine z_mget C 9 d_m_residue_492 (by decide) k_469 rfl rfl ?_
                        refine z_iload C 5 d_m_residue_495 rfl ?_
                        refine z_aload_n C 1 d_m_residue_497 rfl ?_
                        refine z_mget C 8 d_m_residue_498 (by decide) k_468 rfl rfl ?_
                        refine z_callS C [.ref (zA G 54), .int (iI r23), .ref (zA G 53), .int (iI v8_54), .ref (zA G 52)] [] 5 d_m_residue_501 (c_m_less (zl E) G h (Or.inr ⟨by decide, by decide⟩) ok25 (Or.inr ⟨by decide, by decide⟩) ok58 (Or.inr ⟨by decide, by decide⟩)) k_585 k_583 k_584 k_3 (by decide)  (by decide +kernel) rfl rfl (Nat.le_of_ble_eq_true rfl) hroom_m_less (fun r74 σ75 ok76 hq => ?_) (fun _ _ hx => hx.elim)
                        have h := hq
                        refine z_istore C [(8, .int (iI r74)), (11, .int (iI s62)), (0, .ref (zA G 45)), (1, .int (iI p0)), (4, .int (iI p3)), (6, .int (iI r23))] d_m_residue_504 (by decide) rfl ?_
                        refine z_aload_n C 2 d_m_residue_506 rfl ?_
                        refine z_iload_n C 3 d_m_residue_507 rfl ?_
                        refine z_aload_n C 2 d_m_residue_508 rfl ?_
                        refine z_mget C 4 d_m_residue_509 (by decide) k_464 rfl rfl ?_
                        refine z_iload C 4 d_m_residue_512 rfl ?_
                        refine z_ialdN C (16) d_m_residue_514 (Or.inr ⟨by decide, by decide⟩) (by decide) hc10 ?_
                        refine z_aload_n C 2 d_m_residue_515 rfl ?_
                        refine z_mget C 8 d_m_residue_516 (by decide) k_468 rfl rfl ?_
                        refine z_iload C 0 d_m_residue_519 rfl ?_
                        refine z_iconst C d_m_residue_521 ?_
                        obtain ⟨ok77, h⟩ := h
                        refine z_callV C "LimbDeskModel" [.int (iI p0), .int (iI (σ75 48 p3)), .ref (zA G 52), .int (iI r74), .int (iI 2)] [] 5 d_m_residue_522 (c_m_keep (zl E) G h h_p0 ok77 (Or.inr ⟨by decide, by decide⟩) ok76 (okI_lit rfl)) k_542 k_539 k_541 k_s9 k_3 (by decide) (recv_M C) (by decide +kernel) rfl rfl (Nat.le_of_ble_eq_true rfl) hroom_m_keep (fun r78 σ79 ok80 hq => ?_) (fun _ _ hx => hx.elim)
                        have h := hq
                        refine z_pop C d_m_residue_525 rfl ?_
                        refine z_goto C d_m_residue_526 ?_
                        refine z_sub [(0, .ref (zA G 45)), (1, .int (iI p0))] [2, 3] rfl ?_
                        exact HJ66 _ h
                  · intro J64 HJ64 h
                    refine Jq0.walk (Z E G 13 0 0 Q σ57 477 [(0, .ref (zA G 45)), (1, .int (iI p0)), (4, .int (iI p3)), (6, .int (iI r23)), (8, .int (iI v8_54))] []) h ?_ ?_
                    · intro h
                      refine z_iconst C d_m_residue_477 ?_
                      refine z_sub [(0, .ref (zA G 45)), (1, .int (iI p0)), (4, .int (iI p3)), (6, .int (iI r23)), (8, .int (iI v8_54))] [0, 1, 2, 3, 4] rfl ?_
                      exact HJ64 _ h (okI_lit rfl)
                    · intro J81 HJ81 h
                      refine z_if_le C d_m_residue_450 ok58 (fun hb82 => ?_) (fun hb82 => ?_)
                      · have h := h.1 hb82
                        refine z_sub [(0, .ref (zA G 45)), (1, .int (iI p0)), (4, .int (iI p3)), (6, .int (iI r23)), (8, .int (iI v8_54))] [0, 1, 2, 4, 6] rfl ?_
                        exact HJ81 h
                      · have h := h.2 hb82
                        refine z_iload C 7 d_m_residue_453 rfl ?_
                        refine z_aload_n C 0 d_m_residue_455 rfl ?_
                        refine z_mget C 4 d_m_residue_456 (by decide) k_464 rfl rfl ?_
                        refine z_iload C 2 d_m_residue_459 rfl ?_
                        refine z_ialdN C (16) d_m_residue_461 (Or.inr ⟨by decide, by decide⟩) (by decide) hc10 ?_
                        obtain ⟨ok83, h⟩ := h
                        have hj : ∀ s85 : Int, s85 = (if 0 ≤ (σ57 48 p3) then 0 else 1) → Z E G 13 0 0 Q σ57 470 [(0, .ref (zA G 45)), (1, .int (iI p0)), (4, .int (iI p3)), (5, .int (iI r20)), (6, .int (iI r23)), (7, .int (iI r41)), (8, .int (iI v8_54)), (10, .int (iI s33)), (11, .int (iI v11_55))] [.int (iI s85), .int (iI s33)] := by
                          intro s85 e86
                          have h := h s85 e86
                          have ok87 : okI s85 := by rw [e86]; split; exact (okI_lit rfl); exact (okI_lit rfl)
                          refine z_icmp_eq C d_m_residue_470 ok34 ok87 (fun hb88 => ?_) (fun hb88 => ?_)
                          · have h := h.1 hb88
                            refine z_sub [(0, .ref (zA G 45)), (1, .int (iI p0)), (4, .int (iI p3)), (6, .int (iI r23)), (8, .int (iI v8_54))] [0, 1, 2, 4, 6] rfl ?_
                            exact HJ81 h
                          · have h := h.2 hb88
                            refine z_iconst C d_m_residue_473 ?_
                            refine z_goto C d_m_residue_474 ?_
                            refine z_sub [(0, .ref (zA G 45)), (1, .int (iI p0)), (4, .int (iI p3)), (6, .int (iI r23)), (8, .int (iI v8_54))] [0, 1, 2, 4, 6] rfl ?_
                            exact HJ64 _ h (okI_lit rfl)
                        clear h
                        refine z_if_ge C d_m_residue_462 ok83 (fun hb84 => ?_) (fun hb84 => ?_)
                        · refine z_iconst C d_m_residue_469 ?_
                          exact hj _ (if_pos hb84).symm
                        · refine z_iconst C d_m_residue_465 ?_
                          refine z_goto C d_m_residue_466 ?_
                          exact hj _ (if_neg (Int.not_le.mpr hb84)).symm
                · have h := h.2 hb61
                  refine z_aload_n C 0 d_m_residue_279 rfl ?_
                  refine z_mget C 9 d_m_residue_280 (by decide) k_469 rfl rfl ?_
                  refine z_iload C 6 d_m_residue_283 rfl ?_
                  refine z_aload_n C 0 d_m_residue_285 rfl ?_
                  refine z_mget C 9 d_m_residue_286 (by decide) k_469 rfl rfl ?_
                  refine z_iload C 6 d_m_residue_289 rfl ?_
                  refine z_aload_n C 0 d_m_residue_291 rfl ?_
                  refine z_mget C 6 d_m_residue_292 (by decide) k_466 rfl rfl ?_
                  refine z_callS C [.ref (zA G 53), .int (iI v8_54), .ref (zA G 53), .int (iI v8_54), .ref (zA G 50)] [] 5 d_m_residue_295 (c_m_times (zl E) G h (Or.inr ⟨by decide, by decide⟩) ok58 (Or.inr ⟨by decide, by decide⟩) ok58 (Or.inr ⟨by decide, by decide⟩)) k_575 k_573 k_574 k_3 (by decide)  (by decide +kernel) rfl rfl (Nat.le_of_ble_eq_true rfl) hroom_m_times (fun r89 σ90 ok91 hq => ?_) (fun _ _ hx => hx.elim)
                  have h := hq
                  refine z_istore C [(8, .int (iI r89)), (0, .ref (zA G 45)), (1, .int (iI p0)), (4, .int (iI p3)), (5, .int (iI r20)), (6, .int (iI r23)), (7, .int (iI r41)), (10, .int (iI s33)), (11, .int (iI v11_55))] d_m_residue_298 (by decide) rfl ?_
                  refine z_aload_n C 1 d_m_residue_300 rfl ?_
                  refine z_aload_n C 1 d_m_residue_301 rfl ?_
                  refine z_mget C 6 d_m_residue_302 (by decide) k_466 rfl rfl ?_
                  refine z_iload C 0 d_m_residue_305 rfl ?_
                  refine z_aload_n C 1 d_m_residue_307 rfl ?_
                  refine z_mget C 10 d_m_residue_308 (by decide) k_470 rfl rfl ?_
                  refine z_iload C 5 d_m_residue_311 rfl ?_
                  refine z_aload_n C 1 d_m_residue_313 rfl ?_
                  refine z_mget C 8 d_m_residue_314 (by decide) k_468 rfl rfl ?_
                  refine z_callV C "LimbDeskModel" [.ref (zA G 50), .int (iI r89), .ref (zA G 54), .int (iI r23), .ref (zA G 52)] [] 5 d_m_residue_317 (c_m_divided (zl E) G h (Or.inr ⟨by decide, by decide⟩) ok91 (Or.inr ⟨by decide, by decide⟩) ok25 (Or.inr ⟨by decide, by decide⟩)) k_593 k_590 k_592 k_s10 k_3 (by decide) (recv_M C) (by decide +kernel) rfl rfl (Nat.le_of_ble_eq_true rfl) hroom_m_divided (fun r92 σ93 ok94 hq => ?_) (fun _ _ hx => hx.elim)
                  have h := hq
                  refine z_istore C [(8, .int (iI r92)), (0, .ref (zA G 45)), (1, .int (iI p0)), (4, .int (iI p3)), (5, .int (iI r20)), (6, .int (iI r23)), (7, .int (iI r41)), (10, .int (iI s33)), (11, .int (iI v11_55))] d_m_residue_320 (by decide) rfl ?_
                  refine z_iconst C d_m_residue_322 ?_
                  refine z_istore C [(12, .int (iI 0)), (8, .int (iI r92)), (0, .ref (zA G 45)), (1, .int (iI p0)), (4, .int (iI p3)), (5, .int (iI r20)), (6, .int (iI r23)), (7, .int (iI r41)), (10, .int (iI s33)), (11, .int (iI v11_55))] d_m_residue_323 (by decide) rfl ?_
                  refine z_sub [(0, .ref (zA G 45)), (1, .int (iI p0)), (4, .int (iI p3)), (5, .int (iI r20)), (6, .int (iI r23)), (7, .int (iI r41)), (8, .int (iI r92)), (10, .int (iI s33)), (11, .int (iI v11_55)), (12, .int (iI 0))] [2, 3, 4, 5, 6, 7, 1, 8, 9, 0] rfl ?_
                  refine (Lo1.walk (P := fun v12_95 σ96 => okI v12_95 → Z E G 13 0 0 Q σ96 325 [(0, .ref (zA G 45)), (1, .int (iI p0)), (4, .int (iI p3)), (5, .int (iI r20)), (6, .int (iI r23)), (7, .int (iI r41)), (8, .int (iI r92)), (10, .int (iI s33)), (11, .int (iI v11_55)), (12, .int (iI v12_95))] []) ?_ h) (okI_lit rfl)
                  intro v12_95 σ96 again98 Hagain98 h ok97
                  refine z_iload C 9 d_m_residue_325 rfl ?_
                  refine z_iload C 6 d_m_residue_327 rfl ?_
                  refine z_icmp_ge C d_m_residue_329 ok97 ok94 (fun hb99 => ?_) (fun hb99 => ?_)
                  · have h := h.1 hb99
                    refine z_aload_n C 0 d_m_residue_352 rfl ?_
                    refine z_mget C 14 d_m_residue_353 (by decide) k_474 rfl rfl ?_
                    refine z_iload C 3 d_m_residue_356 rfl ?_
                    refine z_iload C 8 d_m_residue_358 rfl ?_
                    refine z_callS C [.ref (zA G 57), .int (iI r20), .int (iI v11_55)] [] 3 d_m_residue_360 (c_m_isBit (zl E) G h (Or.inr ⟨by decide, by decide⟩) ok22 ok59) k_604 k_602 k_603 k_3 (by decide)  (by decide +kernel) rfl rfl (Nat.le_of_ble_eq_true rfl) hroom_m_isBit (fun r100 _s121 ok101 hq => ?_) (fun _ _ hx => hx.elim)
                    obtain ⟨hs_, hk_⟩ := hq
                    subst hs_
                    have h := hk_
                    refine Jo1.walk (fun v8_102 σ103 => okI v8_102 → Z E G 13 0 0 Q σ103 442 [(0, .ref (zA G 45)), (1, .int (iI p0)), (4, .int (iI p3)), (5, .int (iI r20)), (6, .int (iI r23)), (7, .int (iI r41)), (8, .int (iI v8_102)), (10, .int (iI s33)), (11, .int (iI v11_55))] []) h ?_ ?_
                    · intro v8_102 σ103 h ok104
                      refine z_iinc C 8 [(11, .int (iI (v11_55 + (-1)))), (0, .ref (zA G 45)), (1, .int (iI p0)), (4, .int (iI p3)), (5, .int (iI r20)), (6, .int (iI r23)), (7, .int (iI r41)), (8, .int (iI v8_102)), (10, .int (iI s33))] d_m_residue_442 rfl (by decide) rfl ?_
                      refine z_goto C d_m_residue_445 ?_
                      obtain ⟨ok106, h⟩ := h
                      refine z_sub [(0, .ref (zA G 45)), (1, .int (iI p0)), (4, .int (iI p3)), (5, .int (iI r20)), (6, .int (iI r23)), (7, .int (iI r41)), (8, .int (iI v8_102)), (10, .int (iI s33)), (11, .int (iI (v11_55 + (-1))))] [1, 2, 3, 4, 5, 6, 7, 8, 0] rfl ?_
                      exact Hagain60 _ _ _ h ok104 ok106
                    · intro J105 HJ105 h
                      refine z_if_ne C d_m_residue_363 (okI_b ok101) (fun hb107 => ?_) (fun hb107 => ?_)
                      · have h := h.1 hb107
                        refine z_aload_n C 0 d_m_residue_369 rfl ?_
                        refine z_mget C 9 d_m_residue_370 (by decide) k_469 rfl rfl ?_
                        refine z_iload C 6 d_m_residue_373 rfl ?_
                        refine z_aload_n C 0 d_m_residue_375 rfl ?_
                        refine z_mget C 15 d_m_residue_376 (by decide) k_475 rfl rfl ?_
                        refine z_iload C 5 d_m_residue_379 rfl ?_
                        refine z_aload_n C 0 d_m_residue_381 rfl ?_
                        refine z_mget C 6 d_m_residue_382 (by decide) k_466 rfl rfl ?_
                        refine z_callS C [.ref (zA G 53), .int (iI r92), .ref (zA G 58), .int (iI r41), .ref (zA G 50)] [] 5 d_m_residue_385 (c_m_times (zl E) G h (Or.inr ⟨by decide, by decide⟩) ok94 (Or.inr ⟨by decide, by decide⟩) ok43 (Or.inr ⟨by decide, by decide⟩)) k_575 k_573 k_574 k_3 (by decide)  (by decide +kernel) rfl rfl (Nat.le_of_ble_eq_true rfl) hroom_m_times (fun r108 σ109 ok110 hq => ?_) (fun _ _ hx => hx.elim)
                        have h := hq
                        refine z_istore C [(8, .int (iI r108)), (0, .ref (zA G 45)), (1, .int (iI p0)), (4, .int (iI p3)), (5, .int (iI r20)), (6, .int (iI r23)), (7, .int (iI r41)), (10, .int (iI s33)), (11, .int (iI v11_55)), (12, .int (iI v12_95))] d_m_residue_388 (by decide) rfl ?_
                        refine z_aload_n C 1 d_m_residue_390 rfl ?_
                        refine z_aload_n C 1 d_m_residue_391 rfl ?_
                        refine z_mget C 6 d_m_residue_392 (by decide) k_466 rfl rfl ?_
                        refine z_iload C 0 d_m_residue_395 rfl ?_
                        refine z_aload_n C 1 d_m_residue_397 rfl ?_
                        refine z_mget C 10 d_m_residue_398 (by decide) k_470 rfl rfl ?_
                        refine z_iload C 5 d_m_residue_401 rfl ?_
                        refine z_aload_n C 1 d_m_residue_403 rfl ?_
                        refine z_mget C 8 d_m_residue_404 (by decide) k_468 rfl rfl ?_
                        refine z_callV C "LimbDeskModel" [.ref (zA G 50), .int (iI r108), .ref (zA G 54), .int (iI r23), .ref (zA G 52)] [] 5 d_m_residue_407 (c_m_divided (zl E) G h (Or.inr ⟨by decide, by decide⟩) ok110 (Or.inr ⟨by decide, by decide⟩) ok25 (Or.inr ⟨by decide, by decide⟩)) k_593 k_590 k_592 k_s10 k_3 (by decide) (recv_M C) (by decide +kernel) rfl rfl (Nat.le_of_ble_eq_true rfl) hroom_m_divided (fun r111 σ112 ok113 hq => ?_) (fun _ _ hx => hx.elim)
                        have h := hq
                        refine z_istore C [(8, .int (iI r111)), (0, .ref (zA G 45)), (1, .int (iI p0)), (4, .int (iI p3)), (5, .int (iI r20)), (6, .int (iI r23)), (7, .int (iI r41)), (10, .int (iI s33)), (11, .int (iI v11_55)), (12, .int (iI v12_95))] d_m_residue_410 (by decide) rfl ?_
                        refine z_iconst C d_m_residue_412 ?_
                        refine z_istore C [(12, .int (iI 0)), (8, .int (iI r111)), (0, .ref (zA G 45)), (1, .int (iI p0)), (4, .int (iI p3)), (5, .int (iI r20)), (6, .int (iI r23)), (7, .int (iI r41)), (10, .int (iI s33)), (11, .int (iI v11_55))] d_m_residue_413 (by decide) rfl ?_
                        refine z_sub [(0, .ref (zA G 45)), (1, .int (iI p0)), (4, .int (iI p3)), (5, .int (iI r20)), (6, .int (iI r23)), (7, .int (iI r41)), (8, .int (iI r111)), (10, .int (iI s33)), (11, .int (iI v11_55)), (12, .int (iI 0))] [2, 3, 4, 5, 6, 7, 1, 8, 9, 0] rfl ?_
                        refine (Lo1.walk (P := fun v12_114 σ115 => okI v12_114 → Z E G 13 0 0 Q σ115 415 [(0, .ref (zA G 45)), (1, .int (iI p0)), (4, .int (iI p3)), (5, .int (iI r20)), (6, .int (iI r23)), (7, .int (iI r41)), (8, .int (iI r111)), (10, .int (iI s33)), (11, .int (iI v11_55)), (12, .int (iI v12_114))] []) ?_ h) (okI_lit rfl)
                        intro v12_114 σ115 again117 Hagain117 h ok116
                        refine z_iload C 9 d_m_residue_415 rfl ?_
                        refine z_iload C 6 d_m_residue_417 rfl ?_
                        refine z_icmp_ge C d_m_residue_419 ok116 ok113 (fun hb118 => ?_) (fun hb118 => ?_)
                        · have h := h.1 hb118
                          refine z_sub [(0, .ref (zA G 45)), (1, .int (iI p0)), (4, .int (iI p3)), (5, .int (iI r20)), (6, .int (iI r23)), (7, .int (iI r41)), (8, .int (iI r111)), (10, .int (iI s33)), (11, .int (iI v11_55))] [0, 1, 2, 3, 4, 5, 6, 7, 8] rfl ?_
                          exact HJ105 _ _ h ok113
                        · have h := h.2 hb118
                          refine z_aload_n C 0 d_m_residue_422 rfl ?_
                          refine z_mget C 9 d_m_residue_423 (by decide) k_469 rfl rfl ?_
                          refine z_iload C 9 d_m_residue_426 rfl ?_
                          refine z_aload_n C 0 d_m_residue_428 rfl ?_
                          refine z_mget C 6 d_m_residue_429 (by decide) k_466 rfl rfl ?_
                          refine z_iload C 9 d_m_residue_432 rfl ?_
                          obtain ⟨hc119, h⟩ := h
                          refine z_ialdN C (9000) d_m_residue_434 (Or.inr ⟨by decide, by decide⟩) (by decide) hc119 ?_
                          refine z_iastN C (9000) d_m_residue_435 (Or.inr ⟨by decide, by decide⟩) (by decide) hc119 ?_
                          refine z_iinc C 9 [(12, .int (iI (v12_114 + 1))), (0, .ref (zA G 45)), (1, .int (iI p0)), (4, .int (iI p3)), (5, .int (iI r20)), (6, .int (iI r23)), (7, .int (iI r41)), (8, .int (iI r111)), (10, .int (iI s33)), (11, .int (iI v11_55))] d_m_residue_436 rfl (by decide) rfl ?_
                          refine z_goto C d_m_residue_439 ?_
                          obtain ⟨ok120, h⟩ := h
                          refine z_sub [(0, .ref (zA G 45)), (1, .int (iI p0)), (4, .int (iI p3)), (5, .int (iI r20)), (6, .int (iI r23)), (7, .int (iI r41)), (8, .int (iI r111)), (10, .int (iI s33)), (11, .int (iI v11_55)), (12, .int (iI (v12_114 + 1)))] [1, 2, 3, 4, 5, 6, 7, 8, 9, 0] rfl ?_
                          exact Hagain117 _ _ h ok120
                      · have h := h.2 hb107
                        refine z_goto C d_m_residue_366 ?_
                        refine z_sub [(0, .ref (zA G 45)), (1, .int (iI p0)), (4, .int (iI p3)), (5, .int (iI r20)), (6, .int (iI r23)), (7, .int (iI r41)), (8, .int (iI r92)), (10, .int (iI s33)), (11, .int (iI v11_55))] [0, 1, 2, 3, 4, 5, 6, 7, 8] rfl ?_
                        exact HJ105 _ _ h ok94
                  · have h := h.2 hb99
                    refine z_aload_n C 0 d_m_residue_332 rfl ?_
                    refine z_mget C 9 d_m_residue_333 (by decide) k_469 rfl rfl ?_
                    refine z_iload C 9 d_m_residue_336 rfl ?_
                    refine z_aload_n C 0 d_m_residue_338 rfl ?_
                    refine z_mget C 6 d_m_residue_339 (by decide) k_466 rfl rfl ?_
                    refine z_iload C 9 d_m_residue_342 rfl ?_
                    obtain ⟨hc122, h⟩ := h
                    refine z_ialdN C (9000) d_m_residue_344 (Or.inr ⟨by decide, by decide⟩) (by decide) hc122 ?_
                    refine z_iastN C (9000) d_m_residue_345 (Or.inr ⟨by decide, by decide⟩) (by decide) hc122 ?_
                    refine z_iinc C 9 [(12, .int (iI (v12_95 + 1))), (0, .ref (zA G 45)), (1, .int (iI p0)), (4, .int (iI p3)), (5, .int (iI r20)), (6, .int (iI r23)), (7, .int (iI r41)), (8, .int (iI r92)), (10, .int (iI s33)), (11, .int (iI v11_55))] d_m_residue_346 rfl (by decide) rfl ?_
                    refine z_goto C d_m_residue_349 ?_
                    obtain ⟨ok123, h⟩ := h
                    refine z_sub [(0, .ref (zA G 45)), (1, .int (iI p0)), (4, .int (iI p3)), (5, .int (iI r20)), (6, .int (iI r23)), (7, .int (iI r41)), (8, .int (iI r92)), (10, .int (iI s33)), (11, .int (iI v11_55)), (12, .int (iI (v12_95 + 1)))] [1, 2, 3, 4, 5, 6, 7, 8, 9, 0] rfl ?_
                    exact Hagain98 _ _ h ok123
              · have h := h.2 hb48
                refine z_aload_n C 0 d_m_residue_220 rfl ?_
                refine z_mget C 15 d_m_residue_221 (by decide) k_475 rfl rfl ?_
                refine z_iload C 8 d_m_residue_224 rfl ?_
                refine z_aload_n C 0 d_m_residue_226 rfl ?_
                refine z_mget C 6 d_m_residue_227 (by decide) k_466 rfl rfl ?_
                refine z_iload C 8 d_m_residue_230 rfl ?_
                obtain ⟨hc124, h⟩ := h
                refine z_ialdN C (9000) d_m_residue_232 (Or.inr ⟨by decide, by decide⟩) (by decide) hc124 ?_
                obtain ⟨hc125, h⟩ := h
                refine z_iastN C (129) d_m_residue_233 (Or.inr ⟨by decide, by decide⟩) (by decide) hc125 ?_
                refine z_iinc C 8 [(11, .int (iI (v11_44 + 1))), (0, .ref (zA G 45)), (1, .int (iI p0)), (4, .int (iI p3)), (5, .int (iI r20)), (6, .int (iI r23)), (7, .int (iI r41)), (9, .int (iI r29)), (10, .int (iI s33))] d_m_residue_234 rfl (by decide) rfl ?_
                refine z_goto C d_m_residue_237 ?_
                obtain ⟨ok126, h⟩ := h
                refine z_sub [(0, .ref (zA G 45)), (1, .int (iI p0)), (4, .int (iI p3)), (5, .int (iI r20)), (6, .int (iI r23)), (7, .int (iI r41)), (9, .int (iI r29)), (10, .int (iI s33)), (11, .int (iI (v11_44 + 1)))] [1, 2, 3, 4, 5, 6, 7, 8, 0] rfl ?_
                exact Hagain47 _ _ h ok126
            · have h := h.2 hb40
              refine z_aload_n C 0 d_m_residue_168 rfl ?_
              refine z_mget C 14 d_m_residue_169 (by decide) k_474 rfl rfl ?_
              refine z_iload C 8 d_m_residue_172 rfl ?_
              refine z_aload_n C 0 d_m_residue_174 rfl ?_
              refine z_mget C 11 d_m_residue_175 (by decide) k_471 rfl rfl ?_
              refine z_iload C 8 d_m_residue_178 rfl ?_
              obtain ⟨hc127, h⟩ := h
              refine z_ialdN C (9000) d_m_residue_180 (Or.inr ⟨by decide, by decide⟩) (by decide) hc127 ?_
              obtain ⟨hc128, h⟩ := h
              refine z_iastN C (129) d_m_residue_181 (Or.inr ⟨by decide, by decide⟩) (by decide) hc128 ?_
              refine z_iinc C 8 [(11, .int (iI (v11_36 + 1))), (0, .ref (zA G 45)), (1, .int (iI p0)), (4, .int (iI p3)), (5, .int (iI r20)), (6, .int (iI r23)), (7, .int (iI r26)), (9, .int (iI r29)), (10, .int (iI s33))] d_m_residue_182 rfl (by decide) rfl ?_
              refine z_goto C d_m_residue_185 ?_
              obtain ⟨ok129, h⟩ := h
              refine z_sub [(0, .ref (zA G 45)), (1, .int (iI p0)), (4, .int (iI p3)), (5, .int (iI r20)), (6, .int (iI r23)), (7, .int (iI r26)), (9, .int (iI r29)), (10, .int (iI s33)), (11, .int (iI (v11_36 + 1)))] [1, 2, 3, 4, 5, 6, 7, 8, 0] rfl ?_
              exact Hagain39 _ _ h ok129
          · intro J35 HJ35 h
            refine Jq0.walk (Z E G 13 0 0 Q σ27 155 [(0, .ref (zA G 45)), (1, .int (iI p0)), (4, .int (iI p3)), (5, .int (iI r20)), (6, .int (iI r23)), (7, .int (iI r26)), (9, .int (iI r29))] []) h ?_ ?_
            · intro h
              refine z_iconst C d_m_residue_155 ?_
              refine z_sub [(0, .ref (zA G 45)), (1, .int (iI p0)), (4, .int (iI p3)), (5, .int (iI r20)), (6, .int (iI r23)), (7, .int (iI r26)), (9, .int (iI r29))] [0, 1, 2, 3, 4, 5, 6] rfl ?_
              exact HJ35 _ h (okI_lit rfl)
            · intro J130 HJ130 h
              refine z_if_ge C d_m_residue_135 ok32 (fun hb131 => ?_) (fun hb131 => ?_)
              · have h := h.1 hb131
                refine z_sub [(0, .ref (zA G 45)), (1, .int (iI p0)), (4, .int (iI p3)), (5, .int (iI r20)), (6, .int (iI r23)), (7, .int (iI r26)), (9, .int (iI r29))] [5, 6, 9, 4, 3, 2, 0] rfl ?_
                exact HJ130 h
              · have h := h.2 hb131
                refine z_aload_n C 5 d_m_residue_138 rfl ?_
                refine z_mget C 11 d_m_residue_139 (by decide) k_471 rfl rfl ?_
                refine z_iload C 4 d_m_residue_142 rfl ?_
                refine z_iconst C d_m_residue_144 ?_
                refine z_callS C [.ref (zA G 55), .int (iI r20), .int (iI 0)] [] 3 d_m_residue_145 (c_m_isBit (zl E) G h (Or.inr ⟨by decide, by decide⟩) ok22 (okI_lit rfl)) k_604 k_602 k_603 k_3 (by decide)  (by decide +kernel) rfl rfl (Nat.le_of_ble_eq_true rfl) hroom_m_isBit (fun r132 _s135 ok133 hq => ?_) (fun _ _ hx => hx.elim)
                obtain ⟨hs_, hk_⟩ := hq
                subst hs_
                have h := hk_
                refine z_if_eq C d_m_residue_148 (okI_b ok133) (fun hb134 => ?_) (fun hb134 => ?_)
                · have h := h.1 hb134
                  refine z_sub [(0, .ref (zA G 45)), (1, .int (iI p0)), (4, .int (iI p3)), (5, .int (iI r20)), (6, .int (iI r23)), (7, .int (iI r26)), (9, .int (iI r29))] [5, 6, 9, 4, 3, 2, 0] rfl ?_
                  exact HJ130 h
                · have h := h.2 hb134
                  refine z_iconst C d_m_residue_151 ?_
                  refine z_goto C d_m_residue_152 ?_
                  refine z_sub [(0, .ref (zA G 45)), (1, .int (iI p0)), (4, .int (iI p3)), (5, .int (iI r20)), (6, .int (iI r23)), (7, .int (iI r26)), (9, .int (iI r29))] [5, 6, 9, 4, 3, 2, 0] rfl ?_
                  exact HJ35 _ h (okI_lit rfl)
        · have h := h.2 hb19
          refine z_iconst C d_m_residue_79 ?_
          subst hQ
          exact z_ireturn C d_m_residue_80.1 hr ⟨Nat.zero_le _, Nat.zero_le _⟩ (okI_lit rfl) h
      clear h
      refine z_if_ne C d_m_residue_64 ok11 (fun hb12 => ?_) (fun hb12 => ?_)
      · refine z_iconst C d_m_residue_71 ?_
        exact hj _ (if_pos hb12).symm
      · refine z_iconst C d_m_residue_67 ?_
        refine z_goto C d_m_residue_68 ?_
        exact hj _ (if_neg (not_not_intro hb12)).symm
  · intro J5 HJ5 h
    refine Jq0.walk (Z E G 13 0 0 Q (mS σ 45 0 0) 44 [(0, .ref (zA G 45)), (1, .int (iI p0)), (2, .int (iI p1)), (3, .int (iI p2)), (4, .int (iI p3))] [.ref (zA G 45)]) h ?_ ?_
    · intro h
      refine z_iconst C d_m_residue_44 ?_
      refine z_goto C d_m_residue_45 ?_
      refine z_sub [(0, .ref (zA G 45)), (1, .int (iI p0)), (2, .int (iI p1)), (3, .int (iI p2)), (4, .int (iI p3))] [0, 1, 2, 3, 4] rfl ?_
      exact HJ5 _ h (okI_lit rfl)
    · intro J137 HJ137 h
      refine z_if_eq C d_m_residue_10 (okI_b ok2) (fun hb138 => ?_) (fun hb138 => ?_)
      · have h := h.1 hb138
        refine z_sub [(0, .ref (zA G 45)), (1, .int (iI p0)), (2, .int (iI p1)), (3, .int (iI p2)), (4, .int (iI p3))] [0, 1, 2, 3, 4] rfl ?_
        exact HJ137 h
      · have h := h.2 hb138
        refine z_iload_n C 2 d_m_residue_13 rfl ?_
        refine z_callS C [.int (iI p1)] [.ref (zA G 45)] 1 d_m_residue_14 (c_m_isRegister (zl E) G h h_p1) k_519 k_517 k_518 k_3 (by decide)  (by decide +kernel) rfl rfl (Nat.le_of_ble_eq_true rfl) hroom_m_isRegister (fun r139 _s153 ok140 hq => ?_) (fun _ _ hx => hx.elim)
        obtain ⟨hs_, hk_⟩ := hq
        subst hs_
        have h := hk_
        refine z_if_eq C d_m_residue_17 (okI_b ok140) (fun hb141 => ?_) (fun hb141 => ?_)
        · have h := h.1 hb141
          refine z_sub [(0, .ref (zA G 45)), (1, .int (iI p0)), (2, .int (iI p1)), (3, .int (iI p2)), (4, .int (iI p3))] [0, 1, 2, 3, 4] rfl ?_
          exact HJ137 h
        · have h := h.2 hb141
          refine z_iload_n C 3 d_m_residue_20 rfl ?_
          refine z_callS C [.int (iI p2)] [.ref (zA G 45)] 1 d_m_residue_21 (c_m_isRegister (zl E) G h h_p2) k_519 k_517 k_518 k_3 (by decide)  (by decide +kernel) rfl rfl (Nat.le_of_ble_eq_true rfl) hroom_m_isRegister (fun r142 _s152 ok143 hq => ?_) (fun _ _ hx => hx.elim)
          obtain ⟨hs_, hk_⟩ := hq
          subst hs_
          have h := hk_
          refine z_if_eq C d_m_residue_24 (okI_b ok143) (fun hb144 => ?_) (fun hb144 => ?_)
          · have h := h.1 hb144
            refine z_sub [(0, .ref (zA G 45)), (1, .int (iI p0)), (2, .int (iI p1)), (3, .int (iI p2)), (4, .int (iI p3))] [0, 1, 2, 3, 4] rfl ?_
            exact HJ137 h
          · have h := h.2 hb144
            refine z_iload C 4 d_m_residue_27 rfl ?_
            refine z_callS C [.int (iI p3)] [.ref (zA G 45)] 1 d_m_residue_29 (c_m_isRegister (zl E) G h h_p3) k_519 k_517 k_518 k_3 (by decide)  (by decide +kernel) rfl rfl (Nat.le_of_ble_eq_true rfl) hroom_m_isRegister (fun r145 _s151 ok146 hq => ?_) (fun _ _ hx => hx.elim)
            obtain ⟨hs_, hk_⟩ := hq
            subst hs_
            have h := hk_
            refine z_if_eq C d_m_residue_32 (okI_b ok146) (fun hb147 => ?_) (fun hb147 => ?_)
            · have h := h.1 hb147
              refine z_sub [(0, .ref (zA G 45)), (1, .int (iI p0)), (2, .int (iI p1)), (3, .int (iI p2)), (4, .int (iI p3))] [0, 1, 2, 3, 4] rfl ?_
              exact HJ137 h
            · have h := h.2 hb147
              refine z_aload_n C 0 d_m_residue_35 rfl ?_
              refine z_mget C 4 d_m_residue_36 (by decide) k_464 rfl rfl ?_
              refine z_iload_n C 3 d_m_residue_39 rfl ?_
              obtain ⟨hc148, h⟩ := h
              refine z_ialdN C (16) d_m_residue_40 (Or.inr ⟨by decide, by decide⟩) (by decide) hc148 ?_
              obtain ⟨ok149, h⟩ := h
              refine z_if_ge C d_m_residue_41 ok149 (fun hb150 => ?_) (fun hb150 => ?_)
              · have h := h.1 hb150
                refine z_iconst C d_m_residue_48 ?_
                refine z_sub [(0, .ref (zA G 45)), (1, .int (iI p0)), (2, .int (iI p1)), (3, .int (iI p2)), (4, .int (iI p3))] [0, 1, 2, 3, 4] rfl ?_
                exact HJ5 _ h (okI_lit rfl)
              · have h := h.2 hb150
                refine z_sub [(0, .ref (zA G 45)), (1, .int (iI p0)), (2, .int (iI p1)), (3, .int (iI p2)), (4, .int (iI p3))] [0, 1, 2, 3, 4] rfl ?_
                exact HJ137 h
theorem d_m_compare_0 : DD b_m_compare 0 (.aload_n 0) 1 1 := ⟨by decide +kernel, rfl⟩
theorem d_m_compare_1 : DD b_m_compare 1 (.iconst 0) 1 2 := ⟨by decide +kernel, rfl⟩
theorem d_m_compare_2 : DD b_m_compare 2 (.putfield 49) 3 5 := ⟨by decide +kernel, rfl⟩
theorem d_m_compare_5 : DD b_m_compare 5 (.aload_n 0) 1 6 := ⟨by decide +kernel, rfl⟩
theorem d_m_compare_6 : DD b_m_compare 6 (.iload_n 1) 1 7 := ⟨by decide +kernel, rfl⟩
theorem d_m_compare_7 : DD b_m_compare 7 (.invokestatic 83) 3 10 := ⟨by decide +kernel, rfl⟩
theorem d_m_compare_10 : DB b_m_compare 10 (.ifCond .eq 10) 10 13 20 := ⟨by decide +kernel, rfl, rfl⟩
theorem d_m_compare_13 : DD b_m_compare 13 (.iload_n 2) 1 14 := ⟨by decide +kernel, rfl⟩
theorem d_m_compare_14 : DD b_m_compare 14 (.invokestatic 83) 3 17 := ⟨by decide +kernel, rfl⟩
theorem d_m_compare_17 : DB b_m_compare 17 (.ifCond .ne 7) 7 20 24 := ⟨by decide +kernel, rfl, rfl⟩
theorem d_m_compare_20 : DD b_m_compare 20 (.iconst 1) 1 21 := ⟨by decide +kernel, rfl⟩
theorem d_m_compare_21 : DB b_m_compare 21 (.goto 4) 4 24 25 := ⟨by decide +kernel, rfl, rfl⟩
theorem d_m_compare_24 : DD b_m_compare 24 (.iconst 0) 1 25 := ⟨by decide +kernel, rfl⟩
theorem d_m_compare_25 : DD b_m_compare 25 (.iconst 1) 1 26 := ⟨by decide +kernel, rfl⟩
theorem d_m_compare_26 : DD b_m_compare 26 (.invokevirtual 79) 3 29 := ⟨by decide +kernel, rfl⟩
theorem d_m_compare_29 : DB b_m_compare 29 (.ifCond .eq 5) 5 32 34 := ⟨by decide +kernel, rfl, rfl⟩
theorem d_m_compare_32 : DD b_m_compare 32 (.iconst 0) 1 33 := ⟨by decide +kernel, rfl⟩
theorem d_m_compare_33 : DD b_m_compare 33 .ireturn 1 34 := ⟨by decide +kernel, rfl⟩
theorem d_m_compare_34 : DD b_m_compare 34 (.aload_n 0) 1 35 := ⟨by decide +kernel, rfl⟩
theorem d_m_compare_35 : DD b_m_compare 35 (.getfield 16) 3 38 := ⟨by decide +kernel, rfl⟩
theorem d_m_compare_38 : DD b_m_compare 38 (.iload_n 1) 1 39 := ⟨by decide +kernel, rfl⟩
theorem d_m_compare_39 : DD b_m_compare 39 .iaload 1 40 := ⟨by decide +kernel, rfl⟩
theorem d_m_compare_40 : DD b_m_compare 40 (.aload_n 0) 1 41 := ⟨by decide +kernel, rfl⟩
theorem d_m_compare_41 : DD b_m_compare 41 (.getfield 16) 3 44 := ⟨by decide +kernel, rfl⟩
theorem d_m_compare_44 : DD b_m_compare 44 (.iload_n 2) 1 45 := ⟨by decide +kernel, rfl⟩
theorem d_m_compare_45 : DD b_m_compare 45 .iaload 1 46 := ⟨by decide +kernel, rfl⟩
theorem d_m_compare_46 : DB b_m_compare 46 (.if_icmp .eq 24) 24 49 70 := ⟨by decide +kernel, rfl, rfl⟩
theorem d_m_compare_49 : DD b_m_compare 49 (.aload_n 0) 1 50 := ⟨by decide +kernel, rfl⟩
theorem d_m_compare_50 : DD b_m_compare 50 (.getfield 16) 3 53 := ⟨by decide +kernel, rfl⟩
theorem d_m_compare_53 : DD b_m_compare 53 (.iload_n 1) 1 54 := ⟨by decide +kernel, rfl⟩
theorem d_m_compare_54 : DD b_m_compare 54 .iaload 1 55 := ⟨by decide +kernel, rfl⟩
theorem d_m_compare_55 : DD b_m_compare 55 (.aload_n 0) 1 56 := ⟨by decide +kernel, rfl⟩
theorem d_m_compare_56 : DD b_m_compare 56 (.getfield 16) 3 59 := ⟨by decide +kernel, rfl⟩
theorem d_m_compare_59 : DD b_m_compare 59 (.iload_n 2) 1 60 := ⟨by decide +kernel, rfl⟩
theorem d_m_compare_60 : DD b_m_compare 60 .iaload 1 61 := ⟨by decide +kernel, rfl⟩
theorem d_m_compare_61 : DB b_m_compare 61 (.if_icmp .ge 7) 7 64 68 := ⟨by decide +kernel, rfl, rfl⟩
theorem d_m_compare_64 : DD b_m_compare 64 (.iconst (-1)) 1 65 := ⟨by decide +kernel, rfl⟩
theorem d_m_compare_65 : DB b_m_compare 65 (.goto 4) 4 68 69 := ⟨by decide +kernel, rfl, rfl⟩
theorem d_m_compare_68 : DD b_m_compare 68 (.iconst 1) 1 69 := ⟨by decide +kernel, rfl⟩
theorem d_m_compare_69 : DD b_m_compare 69 .ireturn 1 70 := ⟨by decide +kernel, rfl⟩
theorem d_m_compare_70 : DD b_m_compare 70 (.aload_n 0) 1 71 := ⟨by decide +kernel, rfl⟩
theorem d_m_compare_71 : DD b_m_compare 71 (.iload_n 1) 1 72 := ⟨by decide +kernel, rfl⟩
theorem d_m_compare_72 : DD b_m_compare 72 (.aload_n 0) 1 73 := ⟨by decide +kernel, rfl⟩
theorem d_m_compare_73 : DD b_m_compare 73 (.getfield 22) 3 76 := ⟨by decide +kernel, rfl⟩
theorem d_m_compare_76 : DD b_m_compare 76 (.invokevirtual 72) 3 79 := ⟨by decide +kernel, rfl⟩
theorem d_m_compare_79 : DD b_m_compare 79 (.istore_n 3) 1 80 := ⟨by decide +kernel, rfl⟩
theorem d_m_compare_80 : DD b_m_compare 80 (.aload_n 0) 1 81 := ⟨by decide +kernel, rfl⟩
theorem d_m_compare_81 : DD b_m_compare 81 (.iload_n 2) 1 82 := ⟨by decide +kernel, rfl⟩
theorem d_m_compare_82 : DD b_m_compare 82 (.aload_n 0) 1 83 := ⟨by decide +kernel, rfl⟩
theorem d_m_compare_83 : DD b_m_compare 83 (.getfield 25) 3 86 := ⟨by decide +kernel, rfl⟩
theorem d_m_compare_86 : DD b_m_compare 86 (.invokevirtual 72) 3 89 := ⟨by decide +kernel, rfl⟩
theorem d_m_compare_89 : DD b_m_compare 89 (.istore 4) 2 91 := ⟨by decide +kernel, rfl⟩
theorem d_m_compare_91 : DD b_m_compare 91 (.aload_n 0) 1 92 := ⟨by decide +kernel, rfl⟩
theorem d_m_compare_92 : DD b_m_compare 92 (.getfield 16) 3 95 := ⟨by decide +kernel, rfl⟩
theorem d_m_compare_95 : DD b_m_compare 95 (.iload_n 1) 1 96 := ⟨by decide +kernel, rfl⟩
theorem d_m_compare_96 : DD b_m_compare 96 .iaload 1 97 := ⟨by decide +kernel, rfl⟩
theorem d_m_compare_97 : DD b_m_compare 97 (.aload_n 0) 1 98 := ⟨by decide +kernel, rfl⟩
theorem d_m_compare_98 : DD b_m_compare 98 (.getfield 22) 3 101 := ⟨by decide +kernel, rfl⟩
theorem d_m_compare_101 : DD b_m_compare 101 (.iload_n 3) 1 102 := ⟨by decide +kernel, rfl⟩
theorem d_m_compare_102 : DD b_m_compare 102 (.aload_n 0) 1 103 := ⟨by decide +kernel, rfl⟩
theorem d_m_compare_103 : DD b_m_compare 103 (.getfield 25) 3 106 := ⟨by decide +kernel, rfl⟩
theorem d_m_compare_106 : DD b_m_compare 106 (.iload 4) 2 108 := ⟨by decide +kernel, rfl⟩
theorem d_m_compare_108 : DD b_m_compare 108 (.invokestatic 60) 3 111 := ⟨by decide +kernel, rfl⟩
theorem d_m_compare_111 : DD b_m_compare 111 .imul 1 112 := ⟨by decide +kernel, rfl⟩
theorem d_m_compare_112 : DD b_m_compare 112 .ireturn 1 113 := ⟨by decide +kernel, rfl⟩
set_option maxRecDepth 20000 in
set_option maxHeartbeats 4000000 in
theorem c_m_compare (l : Launch) (G : ZG) {p0 p1 : Int} {σ : Mem} {K : Int → Mem → Prop} (h : wp_m_compare p0 p1 σ K) (h_p0 : okI p0) (h_p1 : okI p1) : Ct l G y_m_compare (.code y_m_compare b_m_compare 5 (some .int)) { frames := 2, cells := 0, slots := 0, locals := 42 } 0 0 1 [.ref (zA G 45), .int (iI p0), .int (iI p1)] σ K (fun _ _ => False) := by
  unfold wp_m_compare at h
  refine Ct.ofZ [(0, .ref (zA G 45)), (1, .int (iI p0)), (2, .int (iI p1))] "LimbDeskModel" (by decide) rfl (Nat.le_of_ble_eq_true rfl) rfl ?_
  intro E hR hlE C hr hX
  subst hlE
  have hroom_m_compared : 0 + 1 ≤ (zR E).frames ∧ 8 + (5 + 11) + 0 ≤ (zR E).locals ∧ 0 + 0 ≤ (zR E).cells ∧ 0 + 0 ≤ (zR E).slots := by rw [hR]; decide
  have hroom_m_fails : 0 + 1 ≤ (zR E).frames ∧ 8 + (3 + 11) + 0 ≤ (zR E).locals ∧ 0 + 0 ≤ (zR E).cells ∧ 0 + 0 ≤ (zR E).slots := by rw [hR]; decide
  have hroom_m_isRegister : 1 + 1 ≤ (zR E).frames ∧ 8 + (1 + 11) + 22 ≤ (zR E).locals ∧ 0 + 0 ≤ (zR E).cells ∧ 0 + 0 ≤ (zR E).slots := by rw [hR]; decide
  have hroom_m_load : 0 + 1 ≤ (zR E).frames ∧ 8 + (4 + 11) + 0 ≤ (zR E).locals ∧ 0 + 0 ≤ (zR E).cells ∧ 0 + 0 ≤ (zR E).slots := by rw [hR]; decide
  clear hR
  obtain ⟨Q, hQ⟩ : ∃ Q, Q = MQX G (zb E) 1 K (fun _ _ => False) (zs E) 0 0 0 0 := ⟨_, rfl⟩
  show Z E G 5 0 0 (MQX G (zb E) 1 K (fun _ _ => False) (zs E) 0 0 0 0) σ 0 [(0, .ref (zA G 45)), (1, .int (iI p0)), (2, .int (iI p1))] []
  rw [← hQ]
  refine z_aload_n C 0 d_m_compare_0 rfl ?_
  refine z_iconst C d_m_compare_1 ?_
  refine z_mput_err C d_m_compare_2 k_460 ?_
  refine z_aload_n C 0 d_m_compare_5 rfl ?_
  refine z_iload_n C 1 d_m_compare_6 rfl ?_
  refine z_callS C [.int (iI p0)] [.ref (zA G 45)] 1 d_m_compare_7 (c_m_isRegister (zl E) G h h_p0) k_519 k_517 k_518 k_3 (by decide)  (by decide +kernel) rfl rfl (Nat.le_of_ble_eq_true rfl) hroom_m_isRegister (fun r1 _s35 ok2 hq => ?_) (fun _ _ hx => hx.elim)
  obtain ⟨hs_, hk_⟩ := hq
  subst hs_
  have h := hk_
  refine Jq1.walk (fun s3 => okI s3 → Z E G 5 0 0 Q (mS σ 45 0 0) 25 [(0, .ref (zA G 45)), (1, .int (iI p0)), (2, .int (iI p1))] [.int (iI s3), .ref (zA G 45)]) h ?_ ?_
  · intro s3 h ok4
    refine z_iconst C d_m_compare_25 ?_
    refine z_callV C "LimbDeskModel" [.int (iI s3), .int (iI 1)] [] 2 d_m_compare_26 (c_m_fails (zl E) G h ok4 (okI_lit rfl)) k_526 k_523 k_525 k_s6 k_3 (by decide) (recv_M C) (by decide +kernel) rfl rfl (Nat.le_of_ble_eq_true rfl) hroom_m_fails (fun r6 σ7 ok8 hq => ?_) (fun _ _ hx => hx.elim)
    have h := hq
    refine z_if_eq C d_m_compare_29 (okI_b ok8) (fun hb9 => ?_) (fun hb9 => ?_)
    · have h := h.1 hb9
      refine z_aload_n C 0 d_m_compare_34 rfl ?_
      refine z_mget C 4 d_m_compare_35 (by decide) k_464 rfl rfl ?_
      refine z_iload_n C 1 d_m_compare_38 rfl ?_
      obtain ⟨hc10, h⟩ := h
      refine z_ialdN C (16) d_m_compare_39 (Or.inr ⟨by decide, by decide⟩) (by decide) hc10 ?_
      refine z_aload_n C 0 d_m_compare_40 rfl ?_
      refine z_mget C 4 d_m_compare_41 (by decide) k_464 rfl rfl ?_
      refine z_iload_n C 2 d_m_compare_44 rfl ?_
      obtain ⟨hc11, h⟩ := h
      refine z_ialdN C (16) d_m_compare_45 (Or.inr ⟨by decide, by decide⟩) (by decide) hc11 ?_
      obtain ⟨ok12, h⟩ := h
      obtain ⟨ok13, h⟩ := h
      refine z_icmp_eq C d_m_compare_46 ok12 ok13 (fun hb14 => ?_) (fun hb14 => ?_)
      · have h := h.1 hb14
        refine z_aload_n C 0 d_m_compare_70 rfl ?_
        refine z_iload_n C 1 d_m_compare_71 rfl ?_
        refine z_aload_n C 0 d_m_compare_72 rfl ?_
        refine z_mget C 6 d_m_compare_73 (by decide) k_466 rfl rfl ?_
        refine z_callV C "LimbDeskModel" [.int (iI p0), .ref (zA G 50)] [] 2 d_m_compare_76 (c_m_load (zl E) G h h_p0 (Or.inr ⟨by decide, by decide⟩)) k_534 k_531 k_533 k_s8 k_3 (by decide) (recv_M C) (by decide +kernel) rfl rfl (Nat.le_of_ble_eq_true rfl) hroom_m_load (fun r15 σ16 ok17 hq => ?_) (fun _ _ hx => hx.elim)
        have h := hq
        refine z_istore_n C [(3, .int (iI r15)), (0, .ref (zA G 45)), (1, .int (iI p0)), (2, .int (iI p1))] d_m_compare_79 (by decide) rfl ?_
        refine z_aload_n C 1 d_m_compare_80 rfl ?_
        refine z_iload_n C 3 d_m_compare_81 rfl ?_
        refine z_aload_n C 1 d_m_compare_82 rfl ?_
        refine z_mget C 7 d_m_compare_83 (by decide) k_467 rfl rfl ?_
        refine z_callV C "LimbDeskModel" [.int (iI p1), .ref (zA G 51)] [] 2 d_m_compare_86 (c_m_load (zl E) G h h_p1 (Or.inr ⟨by decide, by decide⟩)) k_534 k_531 k_533 k_s8 k_3 (by decide) (recv_M C) (by decide +kernel) rfl rfl (Nat.le_of_ble_eq_true rfl) hroom_m_load (fun r18 σ19 ok20 hq => ?_) (fun _ _ hx => hx.elim)
        have h := hq
        refine z_istore C [(4, .int (iI r18)), (3, .int (iI r15)), (0, .ref (zA G 45)), (1, .int (iI p0)), (2, .int (iI p1))] d_m_compare_89 (by decide) rfl ?_
        refine z_aload_n C 2 d_m_compare_91 rfl ?_
        refine z_mget C 4 d_m_compare_92 (by decide) k_464 rfl rfl ?_
        refine z_iload_n C 3 d_m_compare_95 rfl ?_
        refine z_ialdN C (16) d_m_compare_96 (Or.inr ⟨by decide, by decide⟩) (by decide) hc10 ?_
        refine z_aload_n C 2 d_m_compare_97 rfl ?_
        refine z_mget C 6 d_m_compare_98 (by decide) k_466 rfl rfl ?_
        refine z_iload_n C 1 d_m_compare_101 rfl ?_
        refine z_aload_n C 2 d_m_compare_102 rfl ?_
        refine z_mget C 7 d_m_compare_103 (by decide) k_467 rfl rfl ?_
        refine z_iload C 0 d_m_compare_106 rfl ?_
        refine z_callS C [.ref (zA G 50), .int (iI r15), .ref (zA G 51), .int (iI r18)] [.int (iI (σ19 48 p0))] 4 d_m_compare_108 (c_m_compared (zl E) G h (Or.inr ⟨by decide, by decide⟩) ok17 (Or.inr ⟨by decide, by decide⟩) ok20) k_582 k_580 k_581 k_3 (by decide)  (by decide +kernel) rfl rfl (Nat.le_of_ble_eq_true rfl) hroom_m_compared (fun r21 _s24 ok22 hq => ?_) (fun _ _ hx => hx.elim)
        obtain ⟨hs_, hk_⟩ := hq
        subst hs_
        have h := hk_
        refine z_imul C d_m_compare_111 ?_
        obtain ⟨ok23, h⟩ := h
        subst hQ
        exact z_ireturn C d_m_compare_112.1 hr ⟨Nat.zero_le _, Nat.zero_le _⟩ ok23 h
      · have h := h.2 hb14
        refine z_aload_n C 0 d_m_compare_49 rfl ?_
        refine z_mget C 4 d_m_compare_50 (by decide) k_464 rfl rfl ?_
        refine z_iload_n C 1 d_m_compare_53 rfl ?_
        refine z_ialdN C (16) d_m_compare_54 (Or.inr ⟨by decide, by decide⟩) (by decide) hc10 ?_
        refine z_aload_n C 0 d_m_compare_55 rfl ?_
        refine z_mget C 4 d_m_compare_56 (by decide) k_464 rfl rfl ?_
        refine z_iload_n C 2 d_m_compare_59 rfl ?_
        refine z_ialdN C (16) d_m_compare_60 (Or.inr ⟨by decide, by decide⟩) (by decide) hc11 ?_
        have hj : ∀ s26 : Int, s26 = (if (σ7 48 p1) ≤ (σ7 48 p0) then 1 else (-1)) → Z E G 5 0 0 Q σ7 69 [(0, .ref (zA G 45)), (1, .int (iI p0)), (2, .int (iI p1))] [.int (iI s26)] := by
          intro s26 e27
          have h := h s26 e27
          have ok28 : okI s26 := by rw [e27]; split; exact (okI_lit rfl); exact (okI_lit rfl)
          subst hQ
          exact z_ireturn C d_m_compare_69.1 hr ⟨Nat.zero_le _, Nat.zero_le _⟩ ok28 h
        clear h
        refine z_icmp_ge C d_m_compare_61 ok12 ok13 (fun hb25 => ?_) (fun hb25 => ?_)
        · refine z_iconst C d_m_compare_68 ?_
          exact hj _ (if_pos hb25).symm
        · refine z_iconst C d_m_compare_64 ?_
          refine z_goto C d_m_compare_65 ?_
          exact hj _ (if_neg (Int.not_le.mpr hb25)).symm
    · have h := h.2 hb9
      refine z_iconst C d_m_compare_32 ?_
      subst hQ
      exact z_ireturn C d_m_compare_33.1 hr ⟨Nat.zero_le _, Nat.zero_le _⟩ (okI_lit rfl) h
  · intro J5 HJ5 h
    refine Jq0.walk (Z E G 5 0 0 Q (mS σ 45 0 0) 20 [(0, .ref (zA G 45)), (1, .int (iI p0)), (2, .int (iI p1))] [.ref (zA G 45)]) h ?_ ?_
    · intro h
      refine z_iconst C d_m_compare_20 ?_
      refine z_goto C d_m_compare_21 ?_
      refine z_sub [(0, .ref (zA G 45)), (1, .int (iI p0)), (2, .int (iI p1))] [0, 1, 2] rfl ?_
      exact HJ5 _ h (okI_lit rfl)
    · intro J29 HJ29 h
      refine z_if_eq C d_m_compare_10 (okI_b ok2) (fun hb30 => ?_) (fun hb30 => ?_)
      · have h := h.1 hb30
        refine z_sub [(0, .ref (zA G 45)), (1, .int (iI p0)), (2, .int (iI p1))] [0, 1, 2] rfl ?_
        exact HJ29 h
      · have h := h.2 hb30
        refine z_iload_n C 2 d_m_compare_13 rfl ?_
        refine z_callS C [.int (iI p1)] [.ref (zA G 45)] 1 d_m_compare_14 (c_m_isRegister (zl E) G h h_p1) k_519 k_517 k_518 k_3 (by decide)  (by decide +kernel) rfl rfl (Nat.le_of_ble_eq_true rfl) hroom_m_isRegister (fun r31 _s34 ok32 hq => ?_) (fun _ _ hx => hx.elim)
        obtain ⟨hs_, hk_⟩ := hq
        subst hs_
        have h := hk_
        refine z_if_ne C d_m_compare_17 (okI_b ok32) (fun hb33 => ?_) (fun hb33 => ?_)
        · have h := h.1 hb33
          refine z_iconst C d_m_compare_24 ?_
          refine z_sub [(0, .ref (zA G 45)), (1, .int (iI p0)), (2, .int (iI p1))] [0, 1, 2] rfl ?_
          exact HJ5 _ h (okI_lit rfl)
        · have h := h.2 hb33
          refine z_sub [(0, .ref (zA G 45)), (1, .int (iI p0)), (2, .int (iI p1))] [0, 1, 2] rfl ?_
          exact HJ29 h
theorem d_m_low64_0 : DD b_m_low64 0 (.lconst 0) 1 1 := ⟨by decide +kernel, rfl⟩
theorem d_m_low64_1 : DD b_m_low64 1 (.lstore_n 2) 1 2 := ⟨by decide +kernel, rfl⟩
theorem d_m_low64_2 : DD b_m_low64 2 (.iconst 3) 1 3 := ⟨by decide +kernel, rfl⟩
theorem d_m_low64_3 : DD b_m_low64 3 (.istore 4) 2 5 := ⟨by decide +kernel, rfl⟩
theorem d_m_low64_5 : DD b_m_low64 5 (.iload 4) 2 7 := ⟨by decide +kernel, rfl⟩
theorem d_m_low64_7 : DB b_m_low64 7 (.ifCond .lt 33) 33 10 40 := ⟨by decide +kernel, rfl, rfl⟩
theorem d_m_low64_10 : DD b_m_low64 10 (.lload_n 2) 1 11 := ⟨by decide +kernel, rfl⟩
theorem d_m_low64_11 : DD b_m_low64 11 (.bipush 16) 2 13 := ⟨by decide +kernel, rfl⟩
theorem d_m_low64_13 : DD b_m_low64 13 .lshl 1 14 := ⟨by decide +kernel, rfl⟩
theorem d_m_low64_14 : DD b_m_low64 14 (.iload 4) 2 16 := ⟨by decide +kernel, rfl⟩
theorem d_m_low64_16 : DD b_m_low64 16 (.iload_n 1) 1 17 := ⟨by decide +kernel, rfl⟩
theorem d_m_low64_17 : DB b_m_low64 17 (.if_icmp .ge 13) 13 20 30 := ⟨by decide +kernel, rfl, rfl⟩
theorem d_m_low64_20 : DD b_m_low64 20 (.aload_n 0) 1 21 := ⟨by decide +kernel, rfl⟩
theorem d_m_low64_21 : DD b_m_low64 21 (.getfield 22) 3 24 := ⟨by decide +kernel, rfl⟩
theorem d_m_low64_24 : DD b_m_low64 24 (.iload 4) 2 26 := ⟨by decide +kernel, rfl⟩
theorem d_m_low64_26 : DD b_m_low64 26 .iaload 1 27 := ⟨by decide +kernel, rfl⟩
theorem d_m_low64_27 : DB b_m_low64 27 (.goto 4) 4 30 31 := ⟨by decide +kernel, rfl, rfl⟩
theorem d_m_low64_30 : DD b_m_low64 30 (.iconst 0) 1 31 := ⟨by decide +kernel, rfl⟩
theorem d_m_low64_31 : DD b_m_low64 31 .i2l 1 32 := ⟨by decide +kernel, rfl⟩
theorem d_m_low64_32 : DD b_m_low64 32 .lor 1 33 := ⟨by decide +kernel, rfl⟩
theorem d_m_low64_33 : DD b_m_low64 33 (.lstore_n 2) 1 34 := ⟨by decide +kernel, rfl⟩
theorem d_m_low64_34 : DD b_m_low64 34 (.iinc 4 (-1)) 3 37 := ⟨by decide +kernel, rfl⟩
theorem d_m_low64_37 : DB b_m_low64 37 (.goto (-32)) (-32) 40 5 := ⟨by decide +kernel, rfl, rfl⟩
theorem d_m_low64_40 : DD b_m_low64 40 (.lload_n 2) 1 41 := ⟨by decide +kernel, rfl⟩
theorem d_m_low64_41 : DD b_m_low64 41 .lreturn 1 42 := ⟨by decide +kernel, rfl⟩
set_option maxRecDepth 20000 in
set_option maxHeartbeats 4000000 in
theorem c_m_low64 (l : Launch) (G : ZG) {p0 : Int} {σ : Mem} {K : Int → Prop} (h : wp_m_low64 p0 σ K) (h_p0 : okI p0) : Ct l G y_m_low64 (.code y_m_low64 b_m_low64 5 (some .long)) { frames := 0, cells := 0, slots := 0, locals := 0 } 0 0 2 [.ref (zA G 45), .int (iI p0)] σ (fun r σ1 => σ = σ1 ∧ K r) (fun _ _ => False) := by
  unfold wp_m_low64 at h
  refine Ct.ofZ [(0, .ref (zA G 45)), (1, .int (iI p0))] "LimbDeskModel" (by decide) rfl (Nat.le_of_ble_eq_true rfl) rfl ?_
  intro E hR hlE C hr hX
  subst hlE
  clear hR
  obtain ⟨Q, hQ⟩ : ∃ Q, Q = MQX G (zb E) 2 (fun r σ1 => σ = σ1 ∧ K r) (fun _ _ => False) (zs E) 0 0 0 0 := ⟨_, rfl⟩
  show Z E G 5 0 0 (MQX G (zb E) 2 (fun r σ1 => σ = σ1 ∧ K r) (fun _ _ => False) (zs E) 0 0 0 0) σ 0 [(0, .ref (zA G 45)), (1, .int (iI p0))] []
  rw [← hQ]
  refine z_lconst C d_m_low64_0 ?_
  refine z_lstore_n C [(2, .long (lL 0)), (0, .ref (zA G 45)), (1, .int (iI p0))] d_m_low64_1 (by decide) rfl ?_
  refine z_iconst C d_m_low64_2 ?_
  refine z_istore C [(4, .int (iI 3)), (2, .long (lL 0)), (0, .ref (zA G 45)), (1, .int (iI p0))] d_m_low64_3 (by decide) rfl ?_
  refine z_sub [(0, .ref (zA G 45)), (1, .int (iI p0)), (2, .long (lL 0)), (4, .int (iI 3))] [2, 3, 1, 0] rfl ?_
  refine (Lq2.walk (P := fun v2_1 v4_2 => okI v4_2 → Z E G 5 0 0 Q σ 5 [(0, .ref (zA G 45)), (1, .int (iI p0)), (2, .long (lL v2_1)), (4, .int (iI v4_2))] []) ?_ h) (okI_lit rfl)
  intro v2_1 v4_2 again4 Hagain4 h ok3
  refine z_iload C 3 d_m_low64_5 rfl ?_
  refine z_if_lt C d_m_low64_7 ok3 (fun hb5 => ?_) (fun hb5 => ?_)
  · have h := h.1 hb5
    refine z_lload_n C 2 d_m_low64_40 rfl ?_
    obtain ⟨ok6, h⟩ := h
    subst hQ
    exact z_lreturn C d_m_low64_41.1 hr ⟨Nat.zero_le _, Nat.zero_le _⟩ ok6 ⟨rfl, h⟩
  · have h := h.2 hb5
    refine z_lload_n C 2 d_m_low64_10 rfl ?_
    refine z_bipush C d_m_low64_11 (by decide) ?_
    refine z_lshlK C 65536 d_m_low64_13 (by decide) ⟨by decide, by decide⟩ ?_
    refine z_iload C 3 d_m_low64_14 rfl ?_
    refine z_iload_n C 1 d_m_low64_16 rfl ?_
    obtain ⟨ha11, h⟩ := h
    have hj : ∀ s9 : Int, s9 = (if p0 ≤ v4_2 then 0 else (σ 50 v4_2)) → Z E G 5 0 0 Q σ 31 [(0, .ref (zA G 45)), (1, .int (iI p0)), (2, .long (lL v2_1)), (4, .int (iI v4_2))] [.int (iI s9), .long (lL (v2_1 * 65536))] := by
      intro s9 e10
      have h := h s9 e10
      obtain ⟨ok12, h⟩ := h
      refine z_i2l C d_m_low64_31 ok12 ?_
      refine z_lor C d_m_low64_32 ?_
      refine z_namel (fun v2_13 e14 => ?_)
      have h := h v2_13 e14
      have ok15 : okL v2_13 := by rw [e14]; exact (okL_or _ _)
      refine z_lstore_n C [(2, .long (lL v2_13)), (0, .ref (zA G 45)), (1, .int (iI p0)), (4, .int (iI v4_2))] d_m_low64_33 (by decide) rfl ?_
      refine z_iinc C 3 [(4, .int (iI (v4_2 + (-1)))), (2, .long (lL v2_13)), (0, .ref (zA G 45)), (1, .int (iI p0))] d_m_low64_34 rfl (by decide) rfl ?_
      refine z_goto C d_m_low64_37 ?_
      obtain ⟨ok16, h⟩ := h
      refine z_sub [(0, .ref (zA G 45)), (1, .int (iI p0)), (2, .long (lL v2_13)), (4, .int (iI (v4_2 + (-1))))] [2, 3, 1, 0] rfl ?_
      exact Hagain4 _ _ h ok16
    clear h
    refine z_icmp_ge C d_m_low64_17 ok3 h_p0 (fun hb7 => ?_) (fun hb7 => ?_)
    · refine z_iconst C d_m_low64_30 ?_
      exact hj _ (if_pos hb7).symm
    · have h := ha11 hb7
      refine z_aload_n C 0 d_m_low64_20 rfl ?_
      refine z_mget C 6 d_m_low64_21 (by decide) k_466 rfl rfl ?_
      refine z_iload C 3 d_m_low64_24 rfl ?_
      obtain ⟨hc8, h⟩ := h
      refine z_ialdN C (9000) d_m_low64_26 (Or.inr ⟨by decide, by decide⟩) (by decide) hc8 ?_
      refine z_goto C d_m_low64_27 ?_
      exact hj _ (if_neg (Int.not_le.mpr hb7)).symm
theorem d_m_small_0 : DD b_m_small 0 (.aload_n 0) 1 1 := ⟨by decide +kernel, rfl⟩
theorem d_m_small_1 : DD b_m_small 1 (.iconst 0) 1 2 := ⟨by decide +kernel, rfl⟩
theorem d_m_small_2 : DD b_m_small 2 (.putfield 49) 3 5 := ⟨by decide +kernel, rfl⟩
theorem d_m_small_5 : DD b_m_small 5 (.aload_n 0) 1 6 := ⟨by decide +kernel, rfl⟩
theorem d_m_small_6 : DD b_m_small 6 (.iload_n 1) 1 7 := ⟨by decide +kernel, rfl⟩
theorem d_m_small_7 : DD b_m_small 7 (.invokestatic 83) 3 10 := ⟨by decide +kernel, rfl⟩
theorem d_m_small_10 : DB b_m_small 10 (.ifCond .ne 7) 7 13 17 := ⟨by decide +kernel, rfl, rfl⟩
theorem d_m_small_13 : DD b_m_small 13 (.iconst 1) 1 14 := ⟨by decide +kernel, rfl⟩
theorem d_m_small_14 : DB b_m_small 14 (.goto 4) 4 17 18 := ⟨by decide +kernel, rfl, rfl⟩
theorem d_m_small_17 : DD b_m_small 17 (.iconst 0) 1 18 := ⟨by decide +kernel, rfl⟩
theorem d_m_small_18 : DD b_m_small 18 (.iconst 1) 1 19 := ⟨by decide +kernel, rfl⟩
theorem d_m_small_19 : DD b_m_small 19 (.invokevirtual 79) 3 22 := ⟨by decide +kernel, rfl⟩
theorem d_m_small_22 : DB b_m_small 22 (.ifCond .eq 5) 5 25 27 := ⟨by decide +kernel, rfl, rfl⟩
theorem d_m_small_25 : DD b_m_small 25 (.lconst 0) 1 26 := ⟨by decide +kernel, rfl⟩
theorem d_m_small_26 : DD b_m_small 26 .lreturn 1 27 := ⟨by decide +kernel, rfl⟩
theorem d_m_small_27 : DD b_m_small 27 (.aload_n 0) 1 28 := ⟨by decide +kernel, rfl⟩
theorem d_m_small_28 : DD b_m_small 28 (.iload_n 1) 1 29 := ⟨by decide +kernel, rfl⟩
theorem d_m_small_29 : DD b_m_small 29 (.aload_n 0) 1 30 := ⟨by decide +kernel, rfl⟩
theorem d_m_small_30 : DD b_m_small 30 (.getfield 22) 3 33 := ⟨by decide +kernel, rfl⟩
theorem d_m_small_33 : DD b_m_small 33 (.invokevirtual 72) 3 36 := ⟨by decide +kernel, rfl⟩
theorem d_m_small_36 : DD b_m_small 36 (.istore_n 2) 1 37 := ⟨by decide +kernel, rfl⟩
theorem d_m_small_37 : DD b_m_small 37 (.aload_n 0) 1 38 := ⟨by decide +kernel, rfl⟩
theorem d_m_small_38 : DD b_m_small 38 (.iload_n 2) 1 39 := ⟨by decide +kernel, rfl⟩
theorem d_m_small_39 : DD b_m_small 39 (.invokevirtual 134) 3 42 := ⟨by decide +kernel, rfl⟩
theorem d_m_small_42 : DD b_m_small 42 (.lstore_n 3) 1 43 := ⟨by decide +kernel, rfl⟩
theorem d_m_small_43 : DD b_m_small 43 (.aload_n 0) 1 44 := ⟨by decide +kernel, rfl⟩
theorem d_m_small_44 : DD b_m_small 44 (.getfield 22) 3 47 := ⟨by decide +kernel, rfl⟩
theorem d_m_small_47 : DD b_m_small 47 (.iload_n 2) 1 48 := ⟨by decide +kernel, rfl⟩
theorem d_m_small_48 : DD b_m_small 48 (.invokestatic 76) 3 51 := ⟨by decide +kernel, rfl⟩
theorem d_m_small_51 : DD b_m_small 51 (.bipush 64) 2 53 := ⟨by decide +kernel, rfl⟩
theorem d_m_small_53 : DB b_m_small 53 (.if_icmp .lt 33) 33 56 86 := ⟨by decide +kernel, rfl, rfl⟩
theorem d_m_small_56 : DD b_m_small 56 (.aload_n 0) 1 57 := ⟨by decide +kernel, rfl⟩
theorem d_m_small_57 : DD b_m_small 57 (.getfield 22) 3 60 := ⟨by decide +kernel, rfl⟩
theorem d_m_small_60 : DD b_m_small 60 (.iload_n 2) 1 61 := ⟨by decide +kernel, rfl⟩
theorem d_m_small_61 : DD b_m_small 61 (.invokestatic 76) 3 64 := ⟨by decide +kernel, rfl⟩
theorem d_m_small_64 : DD b_m_small 64 (.bipush 64) 2 66 := ⟨by decide +kernel, rfl⟩
theorem d_m_small_66 : DB b_m_small 66 (.if_icmp .ne 24) 24 69 90 := ⟨by decide +kernel, rfl, rfl⟩
theorem d_m_small_69 : DD b_m_small 69 (.aload_n 0) 1 70 := ⟨by decide +kernel, rfl⟩
theorem d_m_small_70 : DD b_m_small 70 (.getfield 16) 3 73 := ⟨by decide +kernel, rfl⟩
theorem d_m_small_73 : DD b_m_small 73 (.iload_n 1) 1 74 := ⟨by decide +kernel, rfl⟩
theorem d_m_small_74 : DD b_m_small 74 .iaload 1 75 := ⟨by decide +kernel, rfl⟩
theorem d_m_small_75 : DB b_m_small 75 (.ifCond .ge 15) 15 78 90 := ⟨by decide +kernel, rfl, rfl⟩
theorem d_m_small_78 : DD b_m_small 78 (.lload_n 3) 1 79 := ⟨by decide +kernel, rfl⟩
theorem d_m_small_79 : DD b_m_small 79 (.ldc2_w 140) 3 82 := ⟨by decide +kernel, rfl⟩
theorem d_m_small_82 : DD b_m_small 82 .lcmp 1 83 := ⟨by decide +kernel, rfl⟩
theorem d_m_small_83 : DB b_m_small 83 (.ifCond .ne 7) 7 86 90 := ⟨by decide +kernel, rfl, rfl⟩
theorem d_m_small_86 : DD b_m_small 86 (.iconst 1) 1 87 := ⟨by decide +kernel, rfl⟩
theorem d_m_small_87 : DB b_m_small 87 (.goto 4) 4 90 91 := ⟨by decide +kernel, rfl, rfl⟩
theorem d_m_small_90 : DD b_m_small 90 (.iconst 0) 1 91 := ⟨by decide +kernel, rfl⟩
theorem d_m_small_91 : DD b_m_small 91 (.istore 5) 2 93 := ⟨by decide +kernel, rfl⟩
theorem d_m_small_93 : DD b_m_small 93 (.aload_n 0) 1 94 := ⟨by decide +kernel, rfl⟩
theorem d_m_small_94 : DD b_m_small 94 (.iload 5) 2 96 := ⟨by decide +kernel, rfl⟩
theorem d_m_small_96 : DB b_m_small 96 (.ifCond .ne 7) 7 99 103 := ⟨by decide +kernel, rfl, rfl⟩
theorem d_m_small_99 : DD b_m_small 99 (.iconst 1) 1 100 := ⟨by decide +kernel, rfl⟩
theorem d_m_small_100 : DB b_m_small 100 (.goto 4) 4 103 104 := ⟨by decide +kernel, rfl, rfl⟩
theorem d_m_small_103 : DD b_m_small 103 (.iconst 0) 1 104 := ⟨by decide +kernel, rfl⟩
theorem d_m_small_104 : DD b_m_small 104 (.iconst 2) 1 105 := ⟨by decide +kernel, rfl⟩
theorem d_m_small_105 : DD b_m_small 105 (.invokevirtual 79) 3 108 := ⟨by decide +kernel, rfl⟩
theorem d_m_small_108 : DB b_m_small 108 (.ifCond .eq 7) 7 111 115 := ⟨by decide +kernel, rfl, rfl⟩
theorem d_m_small_111 : DD b_m_small 111 (.lconst 0) 1 112 := ⟨by decide +kernel, rfl⟩
theorem d_m_small_112 : DB b_m_small 112 (.goto 18) 18 115 130 := ⟨by decide +kernel, rfl, rfl⟩
theorem d_m_small_115 : DD b_m_small 115 (.aload_n 0) 1 116 := ⟨by decide +kernel, rfl⟩
theorem d_m_small_116 : DD b_m_small 116 (.getfield 16) 3 119 := ⟨by decide +kernel, rfl⟩
theorem d_m_small_119 : DD b_m_small 119 (.iload_n 1) 1 120 := ⟨by decide +kernel, rfl⟩
theorem d_m_small_120 : DD b_m_small 120 .iaload 1 121 := ⟨by decide +kernel, rfl⟩
theorem d_m_small_121 : DB b_m_small 121 (.ifCond .ge 8) 8 124 129 := ⟨by decide +kernel, rfl, rfl⟩
theorem d_m_small_124 : DD b_m_small 124 (.lload_n 3) 1 125 := ⟨by decide +kernel, rfl⟩
theorem d_m_small_125 : DD b_m_small 125 .lneg 1 126 := ⟨by decide +kernel, rfl⟩
theorem d_m_small_126 : DB b_m_small 126 (.goto 4) 4 129 130 := ⟨by decide +kernel, rfl, rfl⟩
theorem d_m_small_129 : DD b_m_small 129 (.lload_n 3) 1 130 := ⟨by decide +kernel, rfl⟩
theorem d_m_small_130 : DD b_m_small 130 .lreturn 1 131 := ⟨by decide +kernel, rfl⟩
set_option maxRecDepth 20000 in
set_option maxHeartbeats 4000000 in
theorem c_m_small (l : Launch) (G : ZG) {p0 : Int} {σ : Mem} {K : Int → Mem → Prop} (h : wp_m_small p0 σ K) (h_p0 : okI p0) : Ct l G y_m_small (.code y_m_small b_m_small 6 (some .long)) { frames := 2, cells := 0, slots := 0, locals := 42 } 0 0 2 [.ref (zA G 45), .int (iI p0)] σ K (fun _ _ => False) := by
  unfold wp_m_small at h
  refine Ct.ofZ [(0, .ref (zA G 45)), (1, .int (iI p0))] "LimbDeskModel" (by decide) rfl (Nat.le_of_ble_eq_true rfl) rfl ?_
  intro E hR hlE C hr hX
  subst hlE
  have hroom_m_bits0 : 0 + 1 ≤ (zR E).frames ∧ 8 + (4 + 11) + 0 ≤ (zR E).locals ∧ 0 + 0 ≤ (zR E).cells ∧ 0 + 0 ≤ (zR E).slots := by rw [hR]; decide
  have hroom_m_fails : 0 + 1 ≤ (zR E).frames ∧ 8 + (3 + 11) + 0 ≤ (zR E).locals ∧ 0 + 0 ≤ (zR E).cells ∧ 0 + 0 ≤ (zR E).slots := by rw [hR]; decide
  have hroom_m_isRegister : 1 + 1 ≤ (zR E).frames ∧ 8 + (1 + 11) + 22 ≤ (zR E).locals ∧ 0 + 0 ≤ (zR E).cells ∧ 0 + 0 ≤ (zR E).slots := by rw [hR]; decide
  have hroom_m_load : 0 + 1 ≤ (zR E).frames ∧ 8 + (4 + 11) + 0 ≤ (zR E).locals ∧ 0 + 0 ≤ (zR E).cells ∧ 0 + 0 ≤ (zR E).slots := by rw [hR]; decide
  have hroom_m_low64 : 0 + 1 ≤ (zR E).frames ∧ 8 + (5 + 11) + 0 ≤ (zR E).locals ∧ 0 + 0 ≤ (zR E).cells ∧ 0 + 0 ≤ (zR E).slots := by rw [hR]; decide
  clear hR
  obtain ⟨Q, hQ⟩ : ∃ Q, Q = MQX G (zb E) 2 K (fun _ _ => False) (zs E) 0 0 0 0 := ⟨_, rfl⟩
  show Z E G 6 0 0 (MQX G (zb E) 2 K (fun _ _ => False) (zs E) 0 0 0 0) σ 0 [(0, .ref (zA G 45)), (1, .int (iI p0))] []
  rw [← hQ]
  refine z_aload_n C 0 d_m_small_0 rfl ?_
  refine z_iconst C d_m_small_1 ?_
  refine z_mput_err C d_m_small_2 k_460 ?_
  refine z_aload_n C 0 d_m_small_5 rfl ?_
  refine z_iload_n C 1 d_m_small_6 rfl ?_
  refine z_callS C [.int (iI p0)] [.ref (zA G 45)] 1 d_m_small_7 (c_m_isRegister (zl E) G h h_p0) k_519 k_517 k_518 k_3 (by decide)  (by decide +kernel) rfl rfl (Nat.le_of_ble_eq_true rfl) hroom_m_isRegister (fun r1 _s46 ok2 hq => ?_) (fun _ _ hx => hx.elim)
  obtain ⟨hs_, hk_⟩ := hq
  subst hs_
  have h := hk_
  have hj : ∀ s4 : Int, s4 = (if r1 ≠ 0 then 0 else 1) → Z E G 6 0 0 Q (mS σ 45 0 0) 18 [(0, .ref (zA G 45)), (1, .int (iI p0))] [.int (iI s4), .ref (zA G 45)] := by
    intro s4 e5
    have h := h s4 e5
    have ok6 : okI s4 := by rw [e5]; split; exact (okI_lit rfl); exact (okI_lit rfl)
    refine z_iconst C d_m_small_18 ?_
    refine z_callV C "LimbDeskModel" [.int (iI s4), .int (iI 1)] [] 2 d_m_small_19 (c_m_fails (zl E) G h ok6 (okI_lit rfl)) k_526 k_523 k_525 k_s6 k_3 (by decide) (recv_M C) (by decide +kernel) rfl rfl (Nat.le_of_ble_eq_true rfl) hroom_m_fails (fun r7 σ8 ok9 hq => ?_) (fun _ _ hx => hx.elim)
    have h := hq
    refine z_if_eq C d_m_small_22 (okI_b ok9) (fun hb10 => ?_) (fun hb10 => ?_)
    · have h := h.1 hb10
      refine z_aload_n C 0 d_m_small_27 rfl ?_
      refine z_iload_n C 1 d_m_small_28 rfl ?_
      refine z_aload_n C 0 d_m_small_29 rfl ?_
      refine z_mget C 6 d_m_small_30 (by decide) k_466 rfl rfl ?_
      refine z_callV C "LimbDeskModel" [.int (iI p0), .ref (zA G 50)] [] 2 d_m_small_33 (c_m_load (zl E) G h h_p0 (Or.inr ⟨by decide, by decide⟩)) k_534 k_531 k_533 k_s8 k_3 (by decide) (recv_M C) (by decide +kernel) rfl rfl (Nat.le_of_ble_eq_true rfl) hroom_m_load (fun r11 σ12 ok13 hq => ?_) (fun _ _ hx => hx.elim)
      have h := hq
      refine z_istore_n C [(2, .int (iI r11)), (0, .ref (zA G 45)), (1, .int (iI p0))] d_m_small_36 (by decide) rfl ?_
      refine z_aload_n C 1 d_m_small_37 rfl ?_
      refine z_iload_n C 0 d_m_small_38 rfl ?_
      refine z_callV C "LimbDeskModel" [.int (iI r11)] [] 1 d_m_small_39 (c_m_low64 (zl E) G h ok13) k_632 k_629 k_631 k_s11 k_3 (by decide) (recv_M C) (by decide +kernel) rfl rfl (Nat.le_of_ble_eq_true rfl) hroom_m_low64 (fun r14 _s45 ok15 hq => ?_) (fun _ _ hx => hx.elim)
      obtain ⟨hs_, hk_⟩ := hq
      subst hs_
      have h := hk_
      refine z_lstore_n C [(3, .long (lL r14)), (2, .int (iI r11)), (0, .ref (zA G 45)), (1, .int (iI p0))] d_m_small_42 (by decide) rfl ?_
      refine z_aload_n C 2 d_m_small_43 rfl ?_
      refine z_mget C 6 d_m_small_44 (by decide) k_466 rfl rfl ?_
      refine z_iload_n C 1 d_m_small_47 rfl ?_
      refine z_callS C [.ref (zA G 50), .int (iI r11)] [] 2 d_m_small_48 (c_m_bits0 (zl E) G h (Or.inr ⟨by decide, by decide⟩) ok13) k_537 k_535 k_536 k_3 (by decide)  (by decide +kernel) rfl rfl (Nat.le_of_ble_eq_true rfl) hroom_m_bits0 (fun r16 _s44 ok17 hq => ?_) (fun _ _ hx => hx.elim)
      obtain ⟨hs_, hk_⟩ := hq
      subst hs_
      have h := hk_
      refine z_bipush C d_m_small_51 (by decide) ?_
      refine Jq1.walk (fun s18 => okI s18 → Z E G 6 0 0 Q σ12 91 [(0, .ref (zA G 45)), (1, .int (iI p0)), (3, .long (lL r14))] [.int (iI s18)]) h ?_ ?_
      · intro s18 h ok19
        refine z_istore C [(5, .int (iI s18)), (0, .ref (zA G 45)), (1, .int (iI p0)), (3, .long (lL r14))] d_m_small_91 (by decide) rfl ?_
        refine z_aload_n C 1 d_m_small_93 rfl ?_
        refine z_iload C 0 d_m_small_94 rfl ?_
        have hj : ∀ s22 : Int, s22 = (if s18 ≠ 0 then 0 else 1) → Z E G 6 0 0 Q σ12 104 [(5, .int (iI s18)), (0, .ref (zA G 45)), (1, .int (iI p0)), (3, .long (lL r14))] [.int (iI s22), .ref (zA G 45)] := by
          intro s22 e23
          have h := h s22 e23
          have ok24 : okI s22 := by rw [e23]; split; exact (okI_lit rfl); exact (okI_lit rfl)
          refine z_iconst C d_m_small_104 ?_
          refine z_callV C "LimbDeskModel" [.int (iI s22), .int (iI 2)] [] 2 d_m_small_105 (c_m_fails (zl E) G h ok24 (okI_lit rfl)) k_526 k_523 k_525 k_s6 k_3 (by decide) (recv_M C) (by decide +kernel) rfl rfl (Nat.le_of_ble_eq_true rfl) hroom_m_fails (fun r25 σ26 ok27 hq => ?_) (fun _ _ hx => hx.elim)
          have h := hq
          refine z_if_eq C d_m_small_108 (okI_b ok27) (fun hb28 => ?_) (fun hb28 => ?_)
          · have h := h.1 hb28
            refine z_aload_n C 1 d_m_small_115 rfl ?_
            refine z_mget C 4 d_m_small_116 (by decide) k_464 rfl rfl ?_
            refine z_iload_n C 2 d_m_small_119 rfl ?_
            obtain ⟨hc29, h⟩ := h
            refine z_ialdN C (16) d_m_small_120 (Or.inr ⟨by decide, by decide⟩) (by decide) hc29 ?_
            obtain ⟨ok30, h⟩ := h
            refine z_if_ge C d_m_small_121 ok30 (fun hb31 => ?_) (fun hb31 => ?_)
            · have h := h.1 hb31
              refine z_lload_n C 3 d_m_small_129 rfl ?_
              subst hQ
              exact z_lreturn C d_m_small_130.1 hr ⟨Nat.zero_le _, Nat.zero_le _⟩ ok15 h
            · have h := h.2 hb31
              refine z_lload_n C 3 d_m_small_124 rfl ?_
              refine z_lneg C d_m_small_125 ?_
              refine z_goto C d_m_small_126 ?_
              obtain ⟨ok32, h⟩ := h
              subst hQ
              exact z_lreturn C d_m_small_130.1 hr ⟨Nat.zero_le _, Nat.zero_le _⟩ ok32 h
          · have h := h.2 hb28
            refine z_lconst C d_m_small_111 ?_
            refine z_goto C d_m_small_112 ?_
            subst hQ
            exact z_lreturn C d_m_small_130.1 hr ⟨Nat.zero_le _, Nat.zero_le _⟩ (okL_lit rfl) h
        clear h
        refine z_if_ne C d_m_small_96 ok19 (fun hb21 => ?_) (fun hb21 => ?_)
        · refine z_iconst C d_m_small_103 ?_
          exact hj _ (if_pos hb21).symm
        · refine z_iconst C d_m_small_99 ?_
          refine z_goto C d_m_small_100 ?_
          exact hj _ (if_neg (not_not_intro hb21)).symm
      · intro J20 HJ20 h
        refine Jq0.walk (Z E G 6 0 0 Q σ12 86 [(0, .ref (zA G 45)), (1, .int (iI p0)), (3, .long (lL r14))] []) h ?_ ?_
        · intro h
          refine z_iconst C d_m_small_86 ?_
          refine z_goto C d_m_small_87 ?_
          refine z_sub [(0, .ref (zA G 45)), (1, .int (iI p0)), (3, .long (lL r14))] [0, 1, 2] rfl ?_
          exact HJ20 _ h (okI_lit rfl)
        · intro J33 HJ33 h
          refine z_icmp_lt C d_m_small_53 ok17 (okI_lit rfl) (fun hb34 => ?_) (fun hb34 => ?_)
          · have h := h.1 hb34
            refine z_sub [(0, .ref (zA G 45)), (1, .int (iI p0)), (3, .long (lL r14))] [2, 3, 0] rfl ?_
            exact HJ33 h
          · have h := h.2 hb34
            refine z_aload_n C 2 d_m_small_56 rfl ?_
            refine z_mget C 6 d_m_small_57 (by decide) k_466 rfl rfl ?_
            refine z_iload_n C 1 d_m_small_60 rfl ?_
            refine z_callS C [.ref (zA G 50), .int (iI r11)] [] 2 d_m_small_61 (c_m_bits0 (zl E) G h (Or.inr ⟨by decide, by decide⟩) ok13) k_537 k_535 k_536 k_3 (by decide)  (by decide +kernel) rfl rfl (Nat.le_of_ble_eq_true rfl) hroom_m_bits0 (fun r35 _s43 ok36 hq => ?_) (fun _ _ hx => hx.elim)
            obtain ⟨hs_, hk_⟩ := hq
            subst hs_
            have h := hk_
            refine z_bipush C d_m_small_64 (by decide) ?_
            refine Jq0.walk (Z E G 6 0 0 Q σ12 90 [(0, .ref (zA G 45)), (1, .int (iI p0)), (3, .long (lL r14))] []) h ?_ ?_
            · intro h
              refine z_iconst C d_m_small_90 ?_
              refine z_sub [(0, .ref (zA G 45)), (1, .int (iI p0)), (3, .long (lL r14))] [0, 1, 2] rfl ?_
              exact HJ20 _ h (okI_lit rfl)
            · intro J37 HJ37 h
              refine z_icmp_ne C d_m_small_66 ok36 (okI_lit rfl) (fun hb38 => ?_) (fun hb38 => ?_)
              · have h := h.1 hb38
                refine z_sub [(0, .ref (zA G 45)), (1, .int (iI p0)), (3, .long (lL r14))] [2, 3, 0] rfl ?_
                exact HJ37 h
              · have h := h.2 hb38
                refine z_aload_n C 2 d_m_small_69 rfl ?_
                refine z_mget C 4 d_m_small_70 (by decide) k_464 rfl rfl ?_
                refine z_iload_n C 3 d_m_small_73 rfl ?_
                obtain ⟨hc39, h⟩ := h
                refine z_ialdN C (16) d_m_small_74 (Or.inr ⟨by decide, by decide⟩) (by decide) hc39 ?_
                obtain ⟨ok40, h⟩ := h
                refine z_if_ge C d_m_small_75 ok40 (fun hb41 => ?_) (fun hb41 => ?_)
                · have h := h.1 hb41
                  refine z_sub [(0, .ref (zA G 45)), (1, .int (iI p0)), (3, .long (lL r14))] [2, 3, 0] rfl ?_
                  exact HJ37 h
                · have h := h.2 hb41
                  refine z_lload_n C 0 d_m_small_78 rfl ?_
                  refine z_ldc2 C d_m_small_79 k_633 (n := (-9223372036854775808)) (by decide) ?_
                  refine z_lcmp_ne C d_m_small_82 d_m_small_83 ok15 (okL_lit rfl) (fun hb42 => ?_) (fun hb42 => ?_)
                  · have h := h.1 hb42
                    refine z_sub [(0, .ref (zA G 45)), (1, .int (iI p0)), (3, .long (lL r14))] [2, 3, 0] rfl ?_
                    exact HJ37 h
                  · have h := h.2 hb42
                    refine z_sub [(0, .ref (zA G 45)), (1, .int (iI p0)), (3, .long (lL r14))] [2, 3, 0] rfl ?_
                    exact HJ33 h
    · have h := h.2 hb10
      refine z_lconst C d_m_small_25 ?_
      subst hQ
      exact z_lreturn C d_m_small_26.1 hr ⟨Nat.zero_le _, Nat.zero_le _⟩ (okL_lit rfl) h
  clear h
  refine z_if_ne C d_m_small_10 (okI_b ok2) (fun hb3 => ?_) (fun hb3 => ?_)
  · refine z_iconst C d_m_small_17 ?_
    exact hj _ (if_pos hb3).symm
  · refine z_iconst C d_m_small_13 ?_
    refine z_goto C d_m_small_14 ?_
    exact hj _ (if_neg (not_not_intro hb3)).symm
theorem d_m_low_0 : DD b_m_low 0 (.aload_n 0) 1 1 := ⟨by decide +kernel, rfl⟩
theorem d_m_low_1 : DD b_m_low 1 (.iconst 0) 1 2 := ⟨by decide +kernel, rfl⟩
theorem d_m_low_2 : DD b_m_low 2 (.putfield 49) 3 5 := ⟨by decide +kernel, rfl⟩
theorem d_m_low_5 : DD b_m_low 5 (.aload_n 0) 1 6 := ⟨by decide +kernel, rfl⟩
theorem d_m_low_6 : DD b_m_low 6 (.iload_n 1) 1 7 := ⟨by decide +kernel, rfl⟩
theorem d_m_low_7 : DD b_m_low 7 (.invokestatic 83) 3 10 := ⟨by decide +kernel, rfl⟩
theorem d_m_low_10 : DB b_m_low 10 (.ifCond .ne 7) 7 13 17 := ⟨by decide +kernel, rfl, rfl⟩
theorem d_m_low_13 : DD b_m_low 13 (.iconst 1) 1 14 := ⟨by decide +kernel, rfl⟩
theorem d_m_low_14 : DB b_m_low 14 (.goto 4) 4 17 18 := ⟨by decide +kernel, rfl, rfl⟩
theorem d_m_low_17 : DD b_m_low 17 (.iconst 0) 1 18 := ⟨by decide +kernel, rfl⟩
theorem d_m_low_18 : DD b_m_low 18 (.iconst 1) 1 19 := ⟨by decide +kernel, rfl⟩
theorem d_m_low_19 : DD b_m_low 19 (.invokevirtual 79) 3 22 := ⟨by decide +kernel, rfl⟩
theorem d_m_low_22 : DB b_m_low 22 (.ifCond .eq 5) 5 25 27 := ⟨by decide +kernel, rfl, rfl⟩
theorem d_m_low_25 : DD b_m_low 25 (.lconst 0) 1 26 := ⟨by decide +kernel, rfl⟩
theorem d_m_low_26 : DD b_m_low 26 .lreturn 1 27 := ⟨by decide +kernel, rfl⟩
theorem d_m_low_27 : DD b_m_low 27 (.aload_n 0) 1 28 := ⟨by decide +kernel, rfl⟩
theorem d_m_low_28 : DD b_m_low 28 (.aload_n 0) 1 29 := ⟨by decide +kernel, rfl⟩
theorem d_m_low_29 : DD b_m_low 29 (.iload_n 1) 1 30 := ⟨by decide +kernel, rfl⟩
theorem d_m_low_30 : DD b_m_low 30 (.aload_n 0) 1 31 := ⟨by decide +kernel, rfl⟩
theorem d_m_low_31 : DD b_m_low 31 (.getfield 22) 3 34 := ⟨by decide +kernel, rfl⟩
theorem d_m_low_34 : DD b_m_low 34 (.invokevirtual 72) 3 37 := ⟨by decide +kernel, rfl⟩
theorem d_m_low_37 : DD b_m_low 37 (.invokevirtual 134) 3 40 := ⟨by decide +kernel, rfl⟩
theorem d_m_low_40 : DD b_m_low 40 (.lstore_n 2) 1 41 := ⟨by decide +kernel, rfl⟩
theorem d_m_low_41 : DD b_m_low 41 (.aload_n 0) 1 42 := ⟨by decide +kernel, rfl⟩
theorem d_m_low_42 : DD b_m_low 42 (.getfield 16) 3 45 := ⟨by decide +kernel, rfl⟩
theorem d_m_low_45 : DD b_m_low 45 (.iload_n 1) 1 46 := ⟨by decide +kernel, rfl⟩
theorem d_m_low_46 : DD b_m_low 46 .iaload 1 47 := ⟨by decide +kernel, rfl⟩
theorem d_m_low_47 : DB b_m_low 47 (.ifCond .ge 8) 8 50 55 := ⟨by decide +kernel, rfl, rfl⟩
theorem d_m_low_50 : DD b_m_low 50 (.lload_n 2) 1 51 := ⟨by decide +kernel, rfl⟩
theorem d_m_low_51 : DD b_m_low 51 .lneg 1 52 := ⟨by decide +kernel, rfl⟩
theorem d_m_low_52 : DB b_m_low 52 (.goto 4) 4 55 56 := ⟨by decide +kernel, rfl, rfl⟩
theorem d_m_low_55 : DD b_m_low 55 (.lload_n 2) 1 56 := ⟨by decide +kernel, rfl⟩
theorem d_m_low_56 : DD b_m_low 56 .lreturn 1 57 := ⟨by decide +kernel, rfl⟩
set_option maxRecDepth 20000 in
set_option maxHeartbeats 4000000 in
theorem c_m_low (l : Launch) (G : ZG) {p0 : Int} {σ : Mem} {K : Int → Mem → Prop} (h : wp_m_low p0 σ K) (h_p0 : okI p0) : Ct l G y_m_low (.code y_m_low b_m_low 4 (some .long)) { frames := 2, cells := 0, slots := 0, locals := 42 } 0 0 2 [.ref (zA G 45), .int (iI p0)] σ K (fun _ _ => False) := by
  unfold wp_m_low at h
  refine Ct.ofZ [(0, .ref (zA G 45)), (1, .int (iI p0))] "LimbDeskModel" (by decide) rfl (Nat.le_of_ble_eq_true rfl) rfl ?_
  intro E hR hlE C hr hX
  subst hlE
  have hroom_m_fails : 0 + 1 ≤ (zR E).frames ∧ 8 + (3 + 11) + 0 ≤ (zR E).locals ∧ 0 + 0 ≤ (zR E).cells ∧ 0 + 0 ≤ (zR E).slots := by rw [hR]; decide
  have hroom_m_isRegister : 1 + 1 ≤ (zR E).frames ∧ 8 + (1 + 11) + 22 ≤ (zR E).locals ∧ 0 + 0 ≤ (zR E).cells ∧ 0 + 0 ≤ (zR E).slots := by rw [hR]; decide
  have hroom_m_load : 0 + 1 ≤ (zR E).frames ∧ 8 + (4 + 11) + 0 ≤ (zR E).locals ∧ 0 + 0 ≤ (zR E).cells ∧ 0 + 0 ≤ (zR E).slots := by rw [hR]; decide
  have hroom_m_low64 : 0 + 1 ≤ (zR E).frames ∧ 8 + (5 + 11) + 0 ≤ (zR E).locals ∧ 0 + 0 ≤ (zR E).cells ∧ 0 + 0 ≤ (zR E).slots := by rw [hR]; decide
  clear hR
  obtain ⟨Q, hQ⟩ : ∃ Q, Q = MQX G (zb E) 2 K (fun _ _ => False) (zs E) 0 0 0 0 := ⟨_, rfl⟩
  show Z E G 4 0 0 (MQX G (zb E) 2 K (fun _ _ => False) (zs E) 0 0 0 0) σ 0 [(0, .ref (zA G 45)), (1, .int (iI p0))] []
  rw [← hQ]
  refine z_aload_n C 0 d_m_low_0 rfl ?_
  refine z_iconst C d_m_low_1 ?_
  refine z_mput_err C d_m_low_2 k_460 ?_
  refine z_aload_n C 0 d_m_low_5 rfl ?_
  refine z_iload_n C 1 d_m_low_6 rfl ?_
  refine z_callS C [.int (iI p0)] [.ref (zA G 45)] 1 d_m_low_7 (c_m_isRegister (zl E) G h h_p0) k_519 k_517 k_518 k_3 (by decide)  (by decide +kernel) rfl rfl (Nat.le_of_ble_eq_true rfl) hroom_m_isRegister (fun r1 _s23 ok2 hq => ?_) (fun _ _ hx => hx.elim)
  obtain ⟨hs_, hk_⟩ := hq
  subst hs_
  have h := hk_
  have hj : ∀ s4 : Int, s4 = (if r1 ≠ 0 then 0 else 1) → Z E G 4 0 0 Q (mS σ 45 0 0) 18 [(0, .ref (zA G 45)), (1, .int (iI p0))] [.int (iI s4), .ref (zA G 45)] := by
    intro s4 e5
    have h := h s4 e5
    have ok6 : okI s4 := by rw [e5]; split; exact (okI_lit rfl); exact (okI_lit rfl)
    refine z_iconst C d_m_low_18 ?_
    refine z_callV C "LimbDeskModel" [.int (iI s4), .int (iI 1)] [] 2 d_m_low_19 (c_m_fails (zl E) G h ok6 (okI_lit rfl)) k_526 k_523 k_525 k_s6 k_3 (by decide) (recv_M C) (by decide +kernel) rfl rfl (Nat.le_of_ble_eq_true rfl) hroom_m_fails (fun r7 σ8 ok9 hq => ?_) (fun _ _ hx => hx.elim)
    have h := hq
    refine z_if_eq C d_m_low_22 (okI_b ok9) (fun hb10 => ?_) (fun hb10 => ?_)
    · have h := h.1 hb10
      refine z_aload_n C 0 d_m_low_27 rfl ?_
      refine z_aload_n C 0 d_m_low_28 rfl ?_
      refine z_iload_n C 1 d_m_low_29 rfl ?_
      refine z_aload_n C 0 d_m_low_30 rfl ?_
      refine z_mget C 6 d_m_low_31 (by decide) k_466 rfl rfl ?_
      refine z_callV C "LimbDeskModel" [.int (iI p0), .ref (zA G 50)] [.ref (zA G 45)] 2 d_m_low_34 (c_m_load (zl E) G h h_p0 (Or.inr ⟨by decide, by decide⟩)) k_534 k_531 k_533 k_s8 k_3 (by decide) (recv_M C) (by decide +kernel) rfl rfl (Nat.le_of_ble_eq_true rfl) hroom_m_load (fun r11 σ12 ok13 hq => ?_) (fun _ _ hx => hx.elim)
      have h := hq
      refine z_callV C "LimbDeskModel" [.int (iI r11)] [] 1 d_m_low_37 (c_m_low64 (zl E) G h ok13) k_632 k_629 k_631 k_s11 k_3 (by decide) (recv_M C) (by decide +kernel) rfl rfl (Nat.le_of_ble_eq_true rfl) hroom_m_low64 (fun r14 _s22 ok15 hq => ?_) (fun _ _ hx => hx.elim)
      obtain ⟨hs_, hk_⟩ := hq
      subst hs_
      have h := hk_
      refine z_lstore_n C [(2, .long (lL r14)), (0, .ref (zA G 45)), (1, .int (iI p0))] d_m_low_40 (by decide) rfl ?_
      refine z_aload_n C 1 d_m_low_41 rfl ?_
      refine z_mget C 4 d_m_low_42 (by decide) k_464 rfl rfl ?_
      refine z_iload_n C 2 d_m_low_45 rfl ?_
      obtain ⟨hc16, h⟩ := h
      refine z_ialdN C (16) d_m_low_46 (Or.inr ⟨by decide, by decide⟩) (by decide) hc16 ?_
      obtain ⟨ok17, h⟩ := h
      have hj : ∀ s19 : Int, s19 = (if 0 ≤ (σ12 48 p0) then r14 else (-r14)) → Z E G 4 0 0 Q σ12 56 [(2, .long (lL r14)), (0, .ref (zA G 45)), (1, .int (iI p0))] [.long (lL s19)] := by
        intro s19 e20
        have h := h s19 e20
        obtain ⟨ok21, h⟩ := h
        subst hQ
        exact z_lreturn C d_m_low_56.1 hr ⟨Nat.zero_le _, Nat.zero_le _⟩ ok21 h
      clear h
      refine z_if_ge C d_m_low_47 ok17 (fun hb18 => ?_) (fun hb18 => ?_)
      · refine z_lload_n C 0 d_m_low_55 rfl ?_
        exact hj _ (if_pos hb18).symm
      · refine z_lload_n C 0 d_m_low_50 rfl ?_
        refine z_lneg C d_m_low_51 ?_
        refine z_goto C d_m_low_52 ?_
        exact hj _ (if_neg (Int.not_le.mpr hb18)).symm
    · have h := h.2 hb10
      refine z_lconst C d_m_low_25 ?_
      subst hQ
      exact z_lreturn C d_m_low_26.1 hr ⟨Nat.zero_le _, Nat.zero_le _⟩ (okL_lit rfl) h
  clear h
  refine z_if_ne C d_m_low_10 (okI_b ok2) (fun hb3 => ?_) (fun hb3 => ?_)
  · refine z_iconst C d_m_low_17 ?_
    exact hj _ (if_pos hb3).symm
  · refine z_iconst C d_m_low_13 ?_
    refine z_goto C d_m_low_14 ?_
    exact hj _ (if_neg (not_not_intro hb3)).symm
theorem d_m_folded_0 : DD b_m_folded 0 (.aload_n 0) 1 1 := ⟨by decide +kernel, rfl⟩
theorem d_m_folded_1 : DD b_m_folded 1 (.iconst 0) 1 2 := ⟨by decide +kernel, rfl⟩
theorem d_m_folded_2 : DD b_m_folded 2 (.putfield 49) 3 5 := ⟨by decide +kernel, rfl⟩
theorem d_m_folded_5 : DD b_m_folded 5 (.aload_n 0) 1 6 := ⟨by decide +kernel, rfl⟩
theorem d_m_folded_6 : DD b_m_folded 6 (.iload_n 1) 1 7 := ⟨by decide +kernel, rfl⟩
theorem d_m_folded_7 : DD b_m_folded 7 (.invokestatic 83) 3 10 := ⟨by decide +kernel, rfl⟩
theorem d_m_folded_10 : DB b_m_folded 10 (.ifCond .ne 7) 7 13 17 := ⟨by decide +kernel, rfl, rfl⟩
theorem d_m_folded_13 : DD b_m_folded 13 (.iconst 1) 1 14 := ⟨by decide +kernel, rfl⟩
theorem d_m_folded_14 : DB b_m_folded 14 (.goto 4) 4 17 18 := ⟨by decide +kernel, rfl, rfl⟩
theorem d_m_folded_17 : DD b_m_folded 17 (.iconst 0) 1 18 := ⟨by decide +kernel, rfl⟩
theorem d_m_folded_18 : DD b_m_folded 18 (.iconst 1) 1 19 := ⟨by decide +kernel, rfl⟩
theorem d_m_folded_19 : DD b_m_folded 19 (.invokevirtual 79) 3 22 := ⟨by decide +kernel, rfl⟩
theorem d_m_folded_22 : DB b_m_folded 22 (.ifCond .eq 5) 5 25 27 := ⟨by decide +kernel, rfl, rfl⟩
theorem d_m_folded_25 : DD b_m_folded 25 (.lconst 0) 1 26 := ⟨by decide +kernel, rfl⟩
theorem d_m_folded_26 : DD b_m_folded 26 .lreturn 1 27 := ⟨by decide +kernel, rfl⟩
theorem d_m_folded_27 : DD b_m_folded 27 (.aload_n 0) 1 28 := ⟨by decide +kernel, rfl⟩
theorem d_m_folded_28 : DD b_m_folded 28 (.iload_n 1) 1 29 := ⟨by decide +kernel, rfl⟩
theorem d_m_folded_29 : DD b_m_folded 29 (.aload_n 0) 1 30 := ⟨by decide +kernel, rfl⟩
theorem d_m_folded_30 : DD b_m_folded 30 (.getfield 22) 3 33 := ⟨by decide +kernel, rfl⟩
theorem d_m_folded_33 : DD b_m_folded 33 (.invokevirtual 72) 3 36 := ⟨by decide +kernel, rfl⟩
theorem d_m_folded_36 : DD b_m_folded 36 (.istore_n 2) 1 37 := ⟨by decide +kernel, rfl⟩
theorem d_m_folded_37 : DD b_m_folded 37 (.lconst 0) 1 38 := ⟨by decide +kernel, rfl⟩
theorem d_m_folded_38 : DD b_m_folded 38 (.lstore_n 3) 1 39 := ⟨by decide +kernel, rfl⟩
theorem d_m_folded_39 : DD b_m_folded 39 (.ldc2_w 142) 3 42 := ⟨by decide +kernel, rfl⟩
theorem d_m_folded_42 : DD b_m_folded 42 (.lstore 5) 2 44 := ⟨by decide +kernel, rfl⟩
theorem d_m_folded_44 : DD b_m_folded 44 (.iload_n 2) 1 45 := ⟨by decide +kernel, rfl⟩
theorem d_m_folded_45 : DD b_m_folded 45 (.iconst 1) 1 46 := ⟨by decide +kernel, rfl⟩
theorem d_m_folded_46 : DD b_m_folded 46 .isub 1 47 := ⟨by decide +kernel, rfl⟩
theorem d_m_folded_47 : DD b_m_folded 47 (.istore 7) 2 49 := ⟨by decide +kernel, rfl⟩
theorem d_m_folded_49 : DD b_m_folded 49 (.iload 7) 2 51 := ⟨by decide +kernel, rfl⟩
theorem d_m_folded_51 : DB b_m_folded 51 (.ifCond .lt 57) 57 54 108 := ⟨by decide +kernel, rfl, rfl⟩
theorem d_m_folded_54 : DD b_m_folded 54 (.iconst 0) 1 55 := ⟨by decide +kernel, rfl⟩
theorem d_m_folded_55 : DD b_m_folded 55 (.istore 8) 2 57 := ⟨by decide +kernel, rfl⟩
theorem d_m_folded_57 : DD b_m_folded 57 (.iload 8) 2 59 := ⟨by decide +kernel, rfl⟩
theorem d_m_folded_59 : DD b_m_folded 59 (.bipush 16) 2 61 := ⟨by decide +kernel, rfl⟩
theorem d_m_folded_61 : DB b_m_folded 61 (.if_icmp .ge 27) 27 64 88 := ⟨by decide +kernel, rfl, rfl⟩
theorem d_m_folded_64 : DD b_m_folded 64 (.ldc2_w 144) 3 67 := ⟨by decide +kernel, rfl⟩
theorem d_m_folded_67 : DD b_m_folded 67 (.lload_n 3) 1 68 := ⟨by decide +kernel, rfl⟩
theorem d_m_folded_68 : DD b_m_folded 68 .lmul 1 69 := ⟨by decide +kernel, rfl⟩
theorem d_m_folded_69 : DD b_m_folded 69 (.lstore_n 3) 1 70 := ⟨by decide +kernel, rfl⟩
theorem d_m_folded_70 : DD b_m_folded 70 (.lload_n 3) 1 71 := ⟨by decide +kernel, rfl⟩
theorem d_m_folded_71 : DD b_m_folded 71 (.lload 5) 2 73 := ⟨by decide +kernel, rfl⟩
theorem d_m_folded_73 : DD b_m_folded 73 .lcmp 1 74 := ⟨by decide +kernel, rfl⟩
theorem d_m_folded_74 : DB b_m_folded 74 (.ifCond .lt 8) 8 77 82 := ⟨by decide +kernel, rfl, rfl⟩
theorem d_m_folded_77 : DD b_m_folded 77 (.lload_n 3) 1 78 := ⟨by decide +kernel, rfl⟩
theorem d_m_folded_78 : DD b_m_folded 78 (.lload 5) 2 80 := ⟨by decide +kernel, rfl⟩
theorem d_m_folded_80 : DD b_m_folded 80 .lsub 1 81 := ⟨by decide +kernel, rfl⟩
theorem d_m_folded_81 : DD b_m_folded 81 (.lstore_n 3) 1 82 := ⟨by decide +kernel, rfl⟩
theorem d_m_folded_82 : DD b_m_folded 82 (.iinc 8 1) 3 85 := ⟨by decide +kernel, rfl⟩
theorem d_m_folded_85 : DB b_m_folded 85 (.goto (-28)) (-28) 88 57 := ⟨by decide +kernel, rfl, rfl⟩
theorem d_m_folded_88 : DD b_m_folded 88 (.lload_n 3) 1 89 := ⟨by decide +kernel, rfl⟩
theorem d_m_folded_89 : DD b_m_folded 89 (.aload_n 0) 1 90 := ⟨by decide +kernel, rfl⟩
theorem d_m_folded_90 : DD b_m_folded 90 (.getfield 22) 3 93 := ⟨by decide +kernel, rfl⟩
theorem d_m_folded_93 : DD b_m_folded 93 (.iload 7) 2 95 := ⟨by decide +kernel, rfl⟩
theorem d_m_folded_95 : DD b_m_folded 95 .iaload 1 96 := ⟨by decide +kernel, rfl⟩
theorem d_m_folded_96 : DD b_m_folded 96 .i2l 1 97 := ⟨by decide +kernel, rfl⟩
theorem d_m_folded_97 : DD b_m_folded 97 .ladd 1 98 := ⟨by decide +kernel, rfl⟩
theorem d_m_folded_98 : DD b_m_folded 98 (.lload 5) 2 100 := ⟨by decide +kernel, rfl⟩
theorem d_m_folded_100 : DD b_m_folded 100 .lrem 1 101 := ⟨by decide +kernel, rfl⟩
theorem d_m_folded_101 : DD b_m_folded 101 (.lstore_n 3) 1 102 := ⟨by decide +kernel, rfl⟩
theorem d_m_folded_102 : DD b_m_folded 102 (.iinc 7 (-1)) 3 105 := ⟨by decide +kernel, rfl⟩
theorem d_m_folded_105 : DB b_m_folded 105 (.goto (-56)) (-56) 108 49 := ⟨by decide +kernel, rfl, rfl⟩
theorem d_m_folded_108 : DD b_m_folded 108 (.aload_n 0) 1 109 := ⟨by decide +kernel, rfl⟩
theorem d_m_folded_109 : DD b_m_folded 109 (.getfield 16) 3 112 := ⟨by decide +kernel, rfl⟩
theorem d_m_folded_112 : DD b_m_folded 112 (.iload_n 1) 1 113 := ⟨by decide +kernel, rfl⟩
theorem d_m_folded_113 : DD b_m_folded 113 .iaload 1 114 := ⟨by decide +kernel, rfl⟩
theorem d_m_folded_114 : DB b_m_folded 114 (.ifCond .ge 8) 8 117 122 := ⟨by decide +kernel, rfl, rfl⟩
theorem d_m_folded_117 : DD b_m_folded 117 (.lload_n 3) 1 118 := ⟨by decide +kernel, rfl⟩
theorem d_m_folded_118 : DD b_m_folded 118 .lneg 1 119 := ⟨by decide +kernel, rfl⟩
theorem d_m_folded_119 : DB b_m_folded 119 (.goto 4) 4 122 123 := ⟨by decide +kernel, rfl, rfl⟩
theorem d_m_folded_122 : DD b_m_folded 122 (.lload_n 3) 1 123 := ⟨by decide +kernel, rfl⟩
theorem d_m_folded_123 : DD b_m_folded 123 .lreturn 1 124 := ⟨by decide +kernel, rfl⟩
set_option maxRecDepth 20000 in
set_option maxHeartbeats 4000000 in
theorem c_m_folded (l : Launch) (G : ZG) {p0 : Int} {σ : Mem} {K : Int → Mem → Prop} (h : wp_m_folded p0 σ K) (h_p0 : okI p0) : Ct l G y_m_folded (.code y_m_folded b_m_folded 9 (some .long)) { frames := 2, cells := 0, slots := 0, locals := 42 } 0 0 2 [.ref (zA G 45), .int (iI p0)] σ K (fun _ _ => False) := by
  unfold wp_m_folded at h
  refine Ct.ofZ [(0, .ref (zA G 45)), (1, .int (iI p0))] "LimbDeskModel" (by decide) rfl (Nat.le_of_ble_eq_true rfl) rfl ?_
  intro E hR hlE C hr hX
  subst hlE
  have hroom_m_fails : 0 + 1 ≤ (zR E).frames ∧ 8 + (3 + 11) + 0 ≤ (zR E).locals ∧ 0 + 0 ≤ (zR E).cells ∧ 0 + 0 ≤ (zR E).slots := by rw [hR]; decide
  have hroom_m_isRegister : 1 + 1 ≤ (zR E).frames ∧ 8 + (1 + 11) + 22 ≤ (zR E).locals ∧ 0 + 0 ≤ (zR E).cells ∧ 0 + 0 ≤ (zR E).slots := by rw [hR]; decide
  have hroom_m_load : 0 + 1 ≤ (zR E).frames ∧ 8 + (4 + 11) + 0 ≤ (zR E).locals ∧ 0 + 0 ≤ (zR E).cells ∧ 0 + 0 ≤ (zR E).slots := by rw [hR]; decide
  clear hR
  obtain ⟨Q, hQ⟩ : ∃ Q, Q = MQX G (zb E) 2 K (fun _ _ => False) (zs E) 0 0 0 0 := ⟨_, rfl⟩
  show Z E G 9 0 0 (MQX G (zb E) 2 K (fun _ _ => False) (zs E) 0 0 0 0) σ 0 [(0, .ref (zA G 45)), (1, .int (iI p0))] []
  rw [← hQ]
  refine z_aload_n C 0 d_m_folded_0 rfl ?_
  refine z_iconst C d_m_folded_1 ?_
  refine z_mput_err C d_m_folded_2 k_460 ?_
  refine z_aload_n C 0 d_m_folded_5 rfl ?_
  refine z_iload_n C 1 d_m_folded_6 rfl ?_
  refine z_callS C [.int (iI p0)] [.ref (zA G 45)] 1 d_m_folded_7 (c_m_isRegister (zl E) G h h_p0) k_519 k_517 k_518 k_3 (by decide)  (by decide +kernel) rfl rfl (Nat.le_of_ble_eq_true rfl) hroom_m_isRegister (fun r1 _s49 ok2 hq => ?_) (fun _ _ hx => hx.elim)
  obtain ⟨hs_, hk_⟩ := hq
  subst hs_
  have h := hk_
  have hj : ∀ s4 : Int, s4 = (if r1 ≠ 0 then 0 else 1) → Z E G 9 0 0 Q (mS σ 45 0 0) 18 [(0, .ref (zA G 45)), (1, .int (iI p0))] [.int (iI s4), .ref (zA G 45)] := by
    intro s4 e5
    have h := h s4 e5
    have ok6 : okI s4 := by rw [e5]; split; exact (okI_lit rfl); exact (okI_lit rfl)
    refine z_iconst C d_m_folded_18 ?_
    refine z_callV C "LimbDeskModel" [.int (iI s4), .int (iI 1)] [] 2 d_m_folded_19 (c_m_fails (zl E) G h ok6 (okI_lit rfl)) k_526 k_523 k_525 k_s6 k_3 (by decide) (recv_M C) (by decide +kernel) rfl rfl (Nat.le_of_ble_eq_true rfl) hroom_m_fails (fun r7 σ8 ok9 hq => ?_) (fun _ _ hx => hx.elim)
    have h := hq
    refine z_if_eq C d_m_folded_22 (okI_b ok9) (fun hb10 => ?_) (fun hb10 => ?_)
    · have h := h.1 hb10
      refine z_aload_n C 0 d_m_folded_27 rfl ?_
      refine z_iload_n C 1 d_m_folded_28 rfl ?_
      refine z_aload_n C 0 d_m_folded_29 rfl ?_
      refine z_mget C 6 d_m_folded_30 (by decide) k_466 rfl rfl ?_
      refine z_callV C "LimbDeskModel" [.int (iI p0), .ref (zA G 50)] [] 2 d_m_folded_33 (c_m_load (zl E) G h h_p0 (Or.inr ⟨by decide, by decide⟩)) k_534 k_531 k_533 k_s8 k_3 (by decide) (recv_M C) (by decide +kernel) rfl rfl (Nat.le_of_ble_eq_true rfl) hroom_m_load (fun r11 σ12 ok13 hq => ?_) (fun _ _ hx => hx.elim)
      have h := hq
      refine z_istore_n C [(2, .int (iI r11)), (0, .ref (zA G 45)), (1, .int (iI p0))] d_m_folded_36 (by decide) rfl ?_
      refine z_lconst C d_m_folded_37 ?_
      refine z_lstore_n C [(3, .long (lL 0)), (2, .int (iI r11)), (0, .ref (zA G 45)), (1, .int (iI p0))] d_m_folded_38 (by decide) rfl ?_
      refine z_ldc2 C d_m_folded_39 k_642 (n := 2305843009213693951) (by decide) ?_
      refine z_lstore C [(5, .long (lL 2305843009213693951)), (3, .long (lL 0)), (2, .int (iI r11)), (0, .ref (zA G 45)), (1, .int (iI p0))] d_m_folded_42 (by decide) rfl ?_
      refine z_iload_n C 2 d_m_folded_44 rfl ?_
      refine z_iconst C d_m_folded_45 ?_
      refine z_isub C d_m_folded_46 ?_
      refine z_namei (fun v7_14 e15 => ?_)
      have h := h v7_14 e15
      refine z_istore C [(7, .int (iI v7_14)), (5, .long (lL 2305843009213693951)), (3, .long (lL 0)), (2, .int (iI r11)), (0, .ref (zA G 45)), (1, .int (iI p0))] d_m_folded_47 (by decide) rfl ?_
      obtain ⟨ok18, h⟩ := h
      refine z_sub [(0, .ref (zA G 45)), (1, .int (iI p0)), (3, .long (lL 0)), (5, .long (lL 2305843009213693951)), (7, .int (iI v7_14))] [4, 5, 2, 1, 0] rfl ?_
      refine (Lq2.walk (P := fun v3_16 v7_17 => okI v7_17 → Z E G 9 0 0 Q σ12 49 [(0, .ref (zA G 45)), (1, .int (iI p0)), (3, .long (lL v3_16)), (5, .long (lL 2305843009213693951)), (7, .int (iI v7_17))] []) ?_ h) ok18
      intro v3_16 v7_17 again20 Hagain20 h ok19
      refine z_iload C 4 d_m_folded_49 rfl ?_
      refine z_if_lt C d_m_folded_51 ok19 (fun hb21 => ?_) (fun hb21 => ?_)
      · have h := h.1 hb21
        refine z_aload_n C 0 d_m_folded_108 rfl ?_
        refine z_mget C 4 d_m_folded_109 (by decide) k_464 rfl rfl ?_
        refine z_iload_n C 1 d_m_folded_112 rfl ?_
        obtain ⟨hc22, h⟩ := h
        refine z_ialdN C (16) d_m_folded_113 (Or.inr ⟨by decide, by decide⟩) (by decide) hc22 ?_
        obtain ⟨ok23, h⟩ := h
        have hj : ∀ s25 : Int, s25 = (if 0 ≤ (σ12 48 p0) then v3_16 else (-v3_16)) → Z E G 9 0 0 Q σ12 123 [(0, .ref (zA G 45)), (1, .int (iI p0)), (3, .long (lL v3_16)), (5, .long (lL 2305843009213693951)), (7, .int (iI v7_17))] [.long (lL s25)] := by
          intro s25 e26
          have h := h s25 e26
          obtain ⟨ok27, h⟩ := h
          subst hQ
          exact z_lreturn C d_m_folded_123.1 hr ⟨Nat.zero_le _, Nat.zero_le _⟩ ok27 h
        clear h
        refine z_if_ge C d_m_folded_114 ok23 (fun hb24 => ?_) (fun hb24 => ?_)
        · refine z_lload_n C 2 d_m_folded_122 rfl ?_
          exact hj _ (if_pos hb24).symm
        · refine z_lload_n C 2 d_m_folded_117 rfl ?_
          refine z_lneg C d_m_folded_118 ?_
          refine z_goto C d_m_folded_119 ?_
          exact hj _ (if_neg (Int.not_le.mpr hb24)).symm
      · have h := h.2 hb21
        refine z_iconst C d_m_folded_54 ?_
        refine z_istore C [(8, .int (iI 0)), (0, .ref (zA G 45)), (1, .int (iI p0)), (3, .long (lL v3_16)), (5, .long (lL 2305843009213693951)), (7, .int (iI v7_17))] d_m_folded_55 (by decide) rfl ?_
        refine z_sub [(0, .ref (zA G 45)), (1, .int (iI p0)), (3, .long (lL v3_16)), (5, .long (lL 2305843009213693951)), (7, .int (iI v7_17)), (8, .int (iI 0))] [1, 2, 3, 4, 5, 0] rfl ?_
        refine (Lq2.walk (P := fun v3_28 v8_29 => okI v8_29 → Z E G 9 0 0 Q σ12 57 [(0, .ref (zA G 45)), (1, .int (iI p0)), (3, .long (lL v3_28)), (5, .long (lL 2305843009213693951)), (7, .int (iI v7_17)), (8, .int (iI v8_29))] []) ?_ h) (okI_lit rfl)
        intro v3_28 v8_29 again31 Hagain31 h ok30
        refine z_iload C 5 d_m_folded_57 rfl ?_
        refine z_bipush C d_m_folded_59 (by decide) ?_
        refine z_icmp_ge C d_m_folded_61 ok30 (okI_lit rfl) (fun hb32 => ?_) (fun hb32 => ?_)
        · have h := h.1 hb32
          refine z_lload_n C 2 d_m_folded_88 rfl ?_
          refine z_aload_n C 0 d_m_folded_89 rfl ?_
          refine z_mget C 6 d_m_folded_90 (by decide) k_466 rfl rfl ?_
          refine z_iload C 4 d_m_folded_93 rfl ?_
          obtain ⟨hc33, h⟩ := h
          refine z_ialdN C (9000) d_m_folded_95 (Or.inr ⟨by decide, by decide⟩) (by decide) hc33 ?_
          obtain ⟨ok34, h⟩ := h
          refine z_i2l C d_m_folded_96 ok34 ?_
          refine z_ladd C d_m_folded_97 ?_
          refine z_lload C 3 d_m_folded_98 rfl ?_
          obtain ⟨hc35, h⟩ := h
          refine z_lrem C d_m_folded_100 hc35 ⟨by decide, by decide⟩ ?_
          refine z_namel (fun v3_36 e37 => ?_)
          have h := h v3_36 e37
          have ok38 : okL v3_36 := by rw [e37]; exact (okL_mod (by decide) (by decide))
          refine z_lstore_n C [(3, .long (lL v3_36)), (0, .ref (zA G 45)), (1, .int (iI p0)), (5, .long (lL 2305843009213693951)), (7, .int (iI v7_17)), (8, .int (iI v8_29))] d_m_folded_101 (by decide) rfl ?_
          refine z_iinc C 4 [(7, .int (iI (v7_17 + (-1)))), (3, .long (lL v3_36)), (0, .ref (zA G 45)), (1, .int (iI p0)), (5, .long (lL 2305843009213693951)), (8, .int (iI v8_29))] d_m_folded_102 rfl (by decide) rfl ?_
          refine z_goto C d_m_folded_105 ?_
          obtain ⟨ok39, h⟩ := h
          refine z_sub [(0, .ref (zA G 45)), (1, .int (iI p0)), (3, .long (lL v3_36)), (5, .long (lL 2305843009213693951)), (7, .int (iI (v7_17 + (-1))))] [2, 3, 1, 4, 0] rfl ?_
          exact Hagain20 _ _ h ok39
        · have h := h.2 hb32
          refine z_ldc2 C d_m_folded_64 k_643 (n := 2) (by decide) ?_
          refine z_lload_n C 2 d_m_folded_67 rfl ?_
          refine z_lmul C d_m_folded_68 ?_
          refine z_namel (fun v3_40 e41 => ?_)
          have h := h v3_40 e41
          refine z_lstore_n C [(3, .long (lL v3_40)), (0, .ref (zA G 45)), (1, .int (iI p0)), (5, .long (lL 2305843009213693951)), (7, .int (iI v7_17)), (8, .int (iI v8_29))] d_m_folded_69 (by decide) rfl ?_
          refine z_lload_n C 0 d_m_folded_70 rfl ?_
          refine z_lload C 3 d_m_folded_71 rfl ?_
          obtain ⟨ok42, h⟩ := h
          refine Jq1.walk (fun v3_43 => Z E G 9 0 0 Q σ12 82 [(0, .ref (zA G 45)), (1, .int (iI p0)), (3, .long (lL v3_43)), (5, .long (lL 2305843009213693951)), (7, .int (iI v7_17)), (8, .int (iI v8_29))] []) h ?_ ?_
          · intro v3_43 h
            refine z_iinc C 5 [(8, .int (iI (v8_29 + 1))), (0, .ref (zA G 45)), (1, .int (iI p0)), (3, .long (lL v3_43)), (5, .long (lL 2305843009213693951)), (7, .int (iI v7_17))] d_m_folded_82 rfl (by decide) rfl ?_
            refine z_goto C d_m_folded_85 ?_
            obtain ⟨ok45, h⟩ := h
            refine z_sub [(0, .ref (zA G 45)), (1, .int (iI p0)), (3, .long (lL v3_43)), (5, .long (lL 2305843009213693951)), (7, .int (iI v7_17)), (8, .int (iI (v8_29 + 1)))] [1, 2, 3, 4, 5, 0] rfl ?_
            exact Hagain31 _ _ h ok45
          · intro J44 HJ44 h
            refine z_lcmp_lt C d_m_folded_73 d_m_folded_74 ok42 (okL_lit rfl) (fun hb46 => ?_) (fun hb46 => ?_)
            · have h := h.1 hb46
              refine z_sub [(0, .ref (zA G 45)), (1, .int (iI p0)), (3, .long (lL v3_40)), (5, .long (lL 2305843009213693951)), (7, .int (iI v7_17)), (8, .int (iI v8_29))] [1, 2, 0, 3, 4, 5] rfl ?_
              exact HJ44 _ h
            · have h := h.2 hb46
              refine z_lload_n C 0 d_m_folded_77 rfl ?_
              refine z_lload C 3 d_m_folded_78 rfl ?_
              refine z_lsub C d_m_folded_80 ?_
              refine z_namel (fun v3_47 e48 => ?_)
              have h := h v3_47 e48
              refine z_lstore_n C [(3, .long (lL v3_47)), (0, .ref (zA G 45)), (1, .int (iI p0)), (5, .long (lL 2305843009213693951)), (7, .int (iI v7_17)), (8, .int (iI v8_29))] d_m_folded_81 (by decide) rfl ?_
              refine z_sub [(0, .ref (zA G 45)), (1, .int (iI p0)), (3, .long (lL v3_47)), (5, .long (lL 2305843009213693951)), (7, .int (iI v7_17)), (8, .int (iI v8_29))] [1, 2, 0, 3, 4, 5] rfl ?_
              exact HJ44 _ h
    · have h := h.2 hb10
      refine z_lconst C d_m_folded_25 ?_
      subst hQ
      exact z_lreturn C d_m_folded_26.1 hr ⟨Nat.zero_le _, Nat.zero_le _⟩ (okL_lit rfl) h
  clear h
  refine z_if_ne C d_m_folded_10 (okI_b ok2) (fun hb3 => ?_) (fun hb3 => ?_)
  · refine z_iconst C d_m_folded_17 ?_
    exact hj _ (if_pos hb3).symm
  · refine z_iconst C d_m_folded_13 ?_
    refine z_goto C d_m_folded_14 ?_
    exact hj _ (if_neg (not_not_intro hb3)).symm
theorem d_m_size_0 : DD b_m_size 0 (.aload_n 0) 1 1 := ⟨by decide +kernel, rfl⟩
theorem d_m_size_1 : DD b_m_size 1 (.iconst 0) 1 2 := ⟨by decide +kernel, rfl⟩
theorem d_m_size_2 : DD b_m_size 2 (.putfield 49) 3 5 := ⟨by decide +kernel, rfl⟩
theorem d_m_size_5 : DD b_m_size 5 (.aload_n 0) 1 6 := ⟨by decide +kernel, rfl⟩
theorem d_m_size_6 : DD b_m_size 6 (.iload_n 1) 1 7 := ⟨by decide +kernel, rfl⟩
theorem d_m_size_7 : DD b_m_size 7 (.invokestatic 83) 3 10 := ⟨by decide +kernel, rfl⟩
theorem d_m_size_10 : DB b_m_size 10 (.ifCond .ne 7) 7 13 17 := ⟨by decide +kernel, rfl, rfl⟩
theorem d_m_size_13 : DD b_m_size 13 (.iconst 1) 1 14 := ⟨by decide +kernel, rfl⟩
theorem d_m_size_14 : DB b_m_size 14 (.goto 4) 4 17 18 := ⟨by decide +kernel, rfl, rfl⟩
theorem d_m_size_17 : DD b_m_size 17 (.iconst 0) 1 18 := ⟨by decide +kernel, rfl⟩
theorem d_m_size_18 : DD b_m_size 18 (.iconst 1) 1 19 := ⟨by decide +kernel, rfl⟩
theorem d_m_size_19 : DD b_m_size 19 (.invokevirtual 79) 3 22 := ⟨by decide +kernel, rfl⟩
theorem d_m_size_22 : DB b_m_size 22 (.ifCond .eq 7) 7 25 29 := ⟨by decide +kernel, rfl, rfl⟩
theorem d_m_size_25 : DD b_m_size 25 (.iconst 0) 1 26 := ⟨by decide +kernel, rfl⟩
theorem d_m_size_26 : DB b_m_size 26 (.goto 8) 8 29 34 := ⟨by decide +kernel, rfl, rfl⟩
theorem d_m_size_29 : DD b_m_size 29 (.aload_n 0) 1 30 := ⟨by decide +kernel, rfl⟩
theorem d_m_size_30 : DD b_m_size 30 (.iload_n 1) 1 31 := ⟨by decide +kernel, rfl⟩
theorem d_m_size_31 : DD b_m_size 31 (.invokevirtual 87) 3 34 := ⟨by decide +kernel, rfl⟩
theorem d_m_size_34 : DD b_m_size 34 .ireturn 1 35 := ⟨by decide +kernel, rfl⟩
set_option maxRecDepth 20000 in
set_option maxHeartbeats 4000000 in
theorem c_m_size (l : Launch) (G : ZG) {p0 : Int} {σ : Mem} {K : Int → Mem → Prop} (h : wp_m_size p0 σ K) (h_p0 : okI p0) : Ct l G y_m_size (.code y_m_size b_m_size 2 (some .int)) { frames := 2, cells := 0, slots := 0, locals := 45 } 0 0 1 [.ref (zA G 45), .int (iI p0)] σ K (fun _ _ => False) := by
  unfold wp_m_size at h
  refine Ct.ofZ [(0, .ref (zA G 45)), (1, .int (iI p0))] "LimbDeskModel" (by decide) rfl (Nat.le_of_ble_eq_true rfl) rfl ?_
  intro E hR hlE C hr hX
  subst hlE
  have hroom_m_fails : 0 + 1 ≤ (zR E).frames ∧ 8 + (3 + 11) + 0 ≤ (zR E).locals ∧ 0 + 0 ≤ (zR E).cells ∧ 0 + 0 ≤ (zR E).slots := by rw [hR]; decide
  have hroom_m_isRegister : 1 + 1 ≤ (zR E).frames ∧ 8 + (1 + 11) + 22 ≤ (zR E).locals ∧ 0 + 0 ≤ (zR E).cells ∧ 0 + 0 ≤ (zR E).slots := by rw [hR]; decide
  have hroom_m_size0 : 1 + 1 ≤ (zR E).frames ∧ 8 + (3 + 11) + 23 ≤ (zR E).locals ∧ 0 + 0 ≤ (zR E).cells ∧ 0 + 0 ≤ (zR E).slots := by rw [hR]; decide
  clear hR
  obtain ⟨Q, hQ⟩ : ∃ Q, Q = MQX G (zb E) 1 K (fun _ _ => False) (zs E) 0 0 0 0 := ⟨_, rfl⟩
  show Z E G 2 0 0 (MQX G (zb E) 1 K (fun _ _ => False) (zs E) 0 0 0 0) σ 0 [(0, .ref (zA G 45)), (1, .int (iI p0))] []
  rw [← hQ]
  refine z_aload_n C 0 d_m_size_0 rfl ?_
  refine z_iconst C d_m_size_1 ?_
  refine z_mput_err C d_m_size_2 k_460 ?_
  refine z_aload_n C 0 d_m_size_5 rfl ?_
  refine z_iload_n C 1 d_m_size_6 rfl ?_
  refine z_callS C [.int (iI p0)] [.ref (zA G 45)] 1 d_m_size_7 (c_m_isRegister (zl E) G h h_p0) k_519 k_517 k_518 k_3 (by decide)  (by decide +kernel) rfl rfl (Nat.le_of_ble_eq_true rfl) hroom_m_isRegister (fun r1 _s14 ok2 hq => ?_) (fun _ _ hx => hx.elim)
  obtain ⟨hs_, hk_⟩ := hq
  subst hs_
  have h := hk_
  have hj : ∀ s4 : Int, s4 = (if r1 ≠ 0 then 0 else 1) → Z E G 2 0 0 Q (mS σ 45 0 0) 18 [(0, .ref (zA G 45)), (1, .int (iI p0))] [.int (iI s4), .ref (zA G 45)] := by
    intro s4 e5
    have h := h s4 e5
    have ok6 : okI s4 := by rw [e5]; split; exact (okI_lit rfl); exact (okI_lit rfl)
    refine z_iconst C d_m_size_18 ?_
    refine z_callV C "LimbDeskModel" [.int (iI s4), .int (iI 1)] [] 2 d_m_size_19 (c_m_fails (zl E) G h ok6 (okI_lit rfl)) k_526 k_523 k_525 k_s6 k_3 (by decide) (recv_M C) (by decide +kernel) rfl rfl (Nat.le_of_ble_eq_true rfl) hroom_m_fails (fun r7 σ8 ok9 hq => ?_) (fun _ _ hx => hx.elim)
    have h := hq
    refine z_if_eq C d_m_size_22 (okI_b ok9) (fun hb10 => ?_) (fun hb10 => ?_)
    · have h := h.1 hb10
      refine z_aload_n C 0 d_m_size_29 rfl ?_
      refine z_iload_n C 1 d_m_size_30 rfl ?_
      refine z_callV C "LimbDeskModel" [.int (iI p0)] [] 1 d_m_size_31 (c_m_size0 (zl E) G h h_p0) k_530 k_527 k_529 k_s7 k_3 (by decide) (recv_M C) (by decide +kernel) rfl rfl (Nat.le_of_ble_eq_true rfl) hroom_m_size0 (fun r11 σ12 ok13 hq => ?_) (fun _ _ hx => hx.elim)
      have h := hq
      subst hQ
      exact z_ireturn C d_m_size_34.1 hr ⟨Nat.zero_le _, Nat.zero_le _⟩ ok13 h
    · have h := h.2 hb10
      refine z_iconst C d_m_size_25 ?_
      refine z_goto C d_m_size_26 ?_
      subst hQ
      exact z_ireturn C d_m_size_34.1 hr ⟨Nat.zero_le _, Nat.zero_le _⟩ (okI_lit rfl) h
  clear h
  refine z_if_ne C d_m_size_10 (okI_b ok2) (fun hb3 => ?_) (fun hb3 => ?_)
  · refine z_iconst C d_m_size_17 ?_
    exact hj _ (if_pos hb3).symm
  · refine z_iconst C d_m_size_13 ?_
    refine z_goto C d_m_size_14 ?_
    exact hj _ (if_neg (not_not_intro hb3)).symm
