/-! Walks, printed by gen/gen.py. -/
theorem d_m_read_0 : DD b_m_read 0 (.aload_n 0) 1 1 := ⟨by decide +kernel, rfl⟩
theorem d_m_read_1 : DD b_m_read 1 (.iconst 0) 1 2 := ⟨by decide +kernel, rfl⟩
theorem d_m_read_2 : DD b_m_read 2 (.putfield 49) 3 5 := ⟨by decide +kernel, rfl⟩
theorem d_m_read_5 : DD b_m_read 5 (.aload_n 0) 1 6 := ⟨by decide +kernel, rfl⟩
theorem d_m_read_6 : DD b_m_read 6 (.getfield 97) 3 9 := ⟨by decide +kernel, rfl⟩
theorem d_m_read_9 : DD b_m_read 9 (.istore_n 3) 1 10 := ⟨by decide +kernel, rfl⟩
theorem d_m_read_10 : DD b_m_read 10 (.iload_n 3) 1 11 := ⟨by decide +kernel, rfl⟩
theorem d_m_read_11 : DB b_m_read 11 (.ifCond .le 18) 18 14 29 := ⟨by decide +kernel, rfl, rfl⟩
theorem d_m_read_14 : DD b_m_read 14 (.aload_n 0) 1 15 := ⟨by decide +kernel, rfl⟩
theorem d_m_read_15 : DD b_m_read 15 (.getfield 19) 3 18 := ⟨by decide +kernel, rfl⟩
theorem d_m_read_18 : DD b_m_read 18 (.iconst 0) 1 19 := ⟨by decide +kernel, rfl⟩
theorem d_m_read_19 : DD b_m_read 19 .iaload 1 20 := ⟨by decide +kernel, rfl⟩
theorem d_m_read_20 : DD b_m_read 20 (.bipush 45) 2 22 := ⟨by decide +kernel, rfl⟩
theorem d_m_read_22 : DB b_m_read 22 (.if_icmp .ne 7) 7 25 29 := ⟨by decide +kernel, rfl, rfl⟩
theorem d_m_read_25 : DD b_m_read 25 (.iconst 1) 1 26 := ⟨by decide +kernel, rfl⟩
theorem d_m_read_26 : DB b_m_read 26 (.goto 4) 4 29 30 := ⟨by decide +kernel, rfl, rfl⟩
theorem d_m_read_29 : DD b_m_read 29 (.iconst 0) 1 30 := ⟨by decide +kernel, rfl⟩
theorem d_m_read_30 : DD b_m_read 30 (.istore 4) 2 32 := ⟨by decide +kernel, rfl⟩
theorem d_m_read_32 : DD b_m_read 32 (.iconst 0) 1 33 := ⟨by decide +kernel, rfl⟩
theorem d_m_read_33 : DD b_m_read 33 (.istore 5) 2 35 := ⟨by decide +kernel, rfl⟩
theorem d_m_read_35 : DD b_m_read 35 (.aload_n 0) 1 36 := ⟨by decide +kernel, rfl⟩
theorem d_m_read_36 : DD b_m_read 36 (.iconst 0) 1 37 := ⟨by decide +kernel, rfl⟩
theorem d_m_read_37 : DD b_m_read 37 (.putfield 97) 3 40 := ⟨by decide +kernel, rfl⟩
theorem d_m_read_40 : DD b_m_read 40 (.aload_n 0) 1 41 := ⟨by decide +kernel, rfl⟩
theorem d_m_read_41 : DD b_m_read 41 (.iload_n 1) 1 42 := ⟨by decide +kernel, rfl⟩
theorem d_m_read_42 : DD b_m_read 42 (.invokestatic 83) 3 45 := ⟨by decide +kernel, rfl⟩
theorem d_m_read_45 : DB b_m_read 45 (.ifCond .eq 19) 19 48 64 := ⟨by decide +kernel, rfl, rfl⟩
theorem d_m_read_48 : DD b_m_read 48 (.iload_n 2) 1 49 := ⟨by decide +kernel, rfl⟩
theorem d_m_read_49 : DD b_m_read 49 (.iconst 2) 1 50 := ⟨by decide +kernel, rfl⟩
theorem d_m_read_50 : DD b_m_read 50 (.bipush 36) 2 52 := ⟨by decide +kernel, rfl⟩
theorem d_m_read_52 : DD b_m_read 52 (.invokestatic 68) 3 55 := ⟨by decide +kernel, rfl⟩
theorem d_m_read_55 : DB b_m_read 55 (.ifCond .eq 9) 9 58 64 := ⟨by decide +kernel, rfl, rfl⟩
theorem d_m_read_58 : DD b_m_read 58 (.iload_n 3) 1 59 := ⟨by decide +kernel, rfl⟩
theorem d_m_read_59 : DD b_m_read 59 (.iload 4) 2 61 := ⟨by decide +kernel, rfl⟩
theorem d_m_read_61 : DB b_m_read 61 (.if_icmp .ne 7) 7 64 68 := ⟨by decide +kernel, rfl, rfl⟩
theorem d_m_read_64 : DD b_m_read 64 (.iconst 1) 1 65 := ⟨by decide +kernel, rfl⟩
theorem d_m_read_65 : DB b_m_read 65 (.goto 4) 4 68 69 := ⟨by decide +kernel, rfl, rfl⟩
theorem d_m_read_68 : DD b_m_read 68 (.iconst 0) 1 69 := ⟨by decide +kernel, rfl⟩
theorem d_m_read_69 : DD b_m_read 69 (.iconst 1) 1 70 := ⟨by decide +kernel, rfl⟩
theorem d_m_read_70 : DD b_m_read 70 (.invokevirtual 79) 3 73 := ⟨by decide +kernel, rfl⟩
theorem d_m_read_73 : DB b_m_read 73 (.ifCond .eq 5) 5 76 78 := ⟨by decide +kernel, rfl, rfl⟩
theorem d_m_read_76 : DD b_m_read 76 (.iconst 0) 1 77 := ⟨by decide +kernel, rfl⟩
theorem d_m_read_77 : DD b_m_read 77 .ireturn 1 78 := ⟨by decide +kernel, rfl⟩
theorem d_m_read_78 : DD b_m_read 78 (.iload 4) 2 80 := ⟨by decide +kernel, rfl⟩
theorem d_m_read_80 : DD b_m_read 80 (.istore 6) 2 82 := ⟨by decide +kernel, rfl⟩
theorem d_m_read_82 : DD b_m_read 82 (.iload 6) 2 84 := ⟨by decide +kernel, rfl⟩
theorem d_m_read_84 : DD b_m_read 84 (.iload_n 3) 1 85 := ⟨by decide +kernel, rfl⟩
theorem d_m_read_85 : DB b_m_read 85 (.if_icmp .ge 38) 38 88 123 := ⟨by decide +kernel, rfl, rfl⟩
theorem d_m_read_88 : DD b_m_read 88 (.aload_n 0) 1 89 := ⟨by decide +kernel, rfl⟩
theorem d_m_read_89 : DD b_m_read 89 (.aload_n 0) 1 90 := ⟨by decide +kernel, rfl⟩
theorem d_m_read_90 : DD b_m_read 90 (.getfield 19) 3 93 := ⟨by decide +kernel, rfl⟩
theorem d_m_read_93 : DD b_m_read 93 (.iload 6) 2 95 := ⟨by decide +kernel, rfl⟩
theorem d_m_read_95 : DD b_m_read 95 .iaload 1 96 := ⟨by decide +kernel, rfl⟩
theorem d_m_read_96 : DD b_m_read 96 (.invokestatic 100) 3 99 := ⟨by decide +kernel, rfl⟩
theorem d_m_read_99 : DD b_m_read 99 (.iload_n 2) 1 100 := ⟨by decide +kernel, rfl⟩
theorem d_m_read_100 : DB b_m_read 100 (.if_icmp .lt 7) 7 103 107 := ⟨by decide +kernel, rfl, rfl⟩
theorem d_m_read_103 : DD b_m_read 103 (.iconst 1) 1 104 := ⟨by decide +kernel, rfl⟩
theorem d_m_read_104 : DB b_m_read 104 (.goto 4) 4 107 108 := ⟨by decide +kernel, rfl, rfl⟩
theorem d_m_read_107 : DD b_m_read 107 (.iconst 0) 1 108 := ⟨by decide +kernel, rfl⟩
theorem d_m_read_108 : DD b_m_read 108 (.iconst 1) 1 109 := ⟨by decide +kernel, rfl⟩
theorem d_m_read_109 : DD b_m_read 109 (.invokevirtual 79) 3 112 := ⟨by decide +kernel, rfl⟩
theorem d_m_read_112 : DB b_m_read 112 (.ifCond .eq 5) 5 115 117 := ⟨by decide +kernel, rfl, rfl⟩
theorem d_m_read_115 : DD b_m_read 115 (.iconst 0) 1 116 := ⟨by decide +kernel, rfl⟩
theorem d_m_read_116 : DD b_m_read 116 .ireturn 1 117 := ⟨by decide +kernel, rfl⟩
theorem d_m_read_117 : DD b_m_read 117 (.iinc 6 1) 3 120 := ⟨by decide +kernel, rfl⟩
theorem d_m_read_120 : DB b_m_read 120 (.goto (-38)) (-38) 123 82 := ⟨by decide +kernel, rfl, rfl⟩
theorem d_m_read_123 : DD b_m_read 123 (.iload 4) 2 125 := ⟨by decide +kernel, rfl⟩
theorem d_m_read_125 : DD b_m_read 125 (.istore 6) 2 127 := ⟨by decide +kernel, rfl⟩
theorem d_m_read_127 : DD b_m_read 127 (.iload 6) 2 129 := ⟨by decide +kernel, rfl⟩
theorem d_m_read_129 : DD b_m_read 129 (.iload_n 3) 1 130 := ⟨by decide +kernel, rfl⟩
theorem d_m_read_130 : DB b_m_read 130 (.if_icmp .ge 31) 31 133 161 := ⟨by decide +kernel, rfl, rfl⟩
theorem d_m_read_133 : DD b_m_read 133 (.aload_n 0) 1 134 := ⟨by decide +kernel, rfl⟩
theorem d_m_read_134 : DD b_m_read 134 (.getfield 22) 3 137 := ⟨by decide +kernel, rfl⟩
theorem d_m_read_137 : DD b_m_read 137 (.iload 5) 2 139 := ⟨by decide +kernel, rfl⟩
theorem d_m_read_139 : DD b_m_read 139 (.iload_n 2) 1 140 := ⟨by decide +kernel, rfl⟩
theorem d_m_read_140 : DD b_m_read 140 (.aload_n 0) 1 141 := ⟨by decide +kernel, rfl⟩
theorem d_m_read_141 : DD b_m_read 141 (.getfield 19) 3 144 := ⟨by decide +kernel, rfl⟩
theorem d_m_read_144 : DD b_m_read 144 (.iload 6) 2 146 := ⟨by decide +kernel, rfl⟩
theorem d_m_read_146 : DD b_m_read 146 .iaload 1 147 := ⟨by decide +kernel, rfl⟩
theorem d_m_read_147 : DD b_m_read 147 (.invokestatic 100) 3 150 := ⟨by decide +kernel, rfl⟩
theorem d_m_read_150 : DD b_m_read 150 (.invokestatic 103) 3 153 := ⟨by decide +kernel, rfl⟩
theorem d_m_read_153 : DD b_m_read 153 (.istore 5) 2 155 := ⟨by decide +kernel, rfl⟩
theorem d_m_read_155 : DD b_m_read 155 (.iinc 6 1) 3 158 := ⟨by decide +kernel, rfl⟩
theorem d_m_read_158 : DB b_m_read 158 (.goto (-31)) (-31) 161 127 := ⟨by decide +kernel, rfl, rfl⟩
theorem d_m_read_161 : DD b_m_read 161 (.aload_n 0) 1 162 := ⟨by decide +kernel, rfl⟩
theorem d_m_read_162 : DD b_m_read 162 (.iload_n 1) 1 163 := ⟨by decide +kernel, rfl⟩
theorem d_m_read_163 : DD b_m_read 163 (.iload 4) 2 165 := ⟨by decide +kernel, rfl⟩
theorem d_m_read_165 : DD b_m_read 165 (.iconst 1) 1 166 := ⟨by decide +kernel, rfl⟩
theorem d_m_read_166 : DB b_m_read 166 (.if_icmp .ne 7) 7 169 173 := ⟨by decide +kernel, rfl, rfl⟩
theorem d_m_read_169 : DD b_m_read 169 (.iconst (-1)) 1 170 := ⟨by decide +kernel, rfl⟩
theorem d_m_read_170 : DB b_m_read 170 (.goto 4) 4 173 174 := ⟨by decide +kernel, rfl, rfl⟩
theorem d_m_read_173 : DD b_m_read 173 (.iconst 1) 1 174 := ⟨by decide +kernel, rfl⟩
theorem d_m_read_174 : DD b_m_read 174 (.aload_n 0) 1 175 := ⟨by decide +kernel, rfl⟩
theorem d_m_read_175 : DD b_m_read 175 (.getfield 22) 3 178 := ⟨by decide +kernel, rfl⟩
theorem d_m_read_178 : DD b_m_read 178 (.iload 5) 2 180 := ⟨by decide +kernel, rfl⟩
theorem d_m_read_180 : DD b_m_read 180 (.iconst 2) 1 181 := ⟨by decide +kernel, rfl⟩
theorem d_m_read_181 : DD b_m_read 181 (.invokevirtual 91) 3 184 := ⟨by decide +kernel, rfl⟩
theorem d_m_read_184 : DB b_m_read 184 (.ifCond .ne 5) 5 187 189 := ⟨by decide +kernel, rfl, rfl⟩
theorem d_m_read_187 : DD b_m_read 187 (.iconst 0) 1 188 := ⟨by decide +kernel, rfl⟩
theorem d_m_read_188 : DD b_m_read 188 .ireturn 1 189 := ⟨by decide +kernel, rfl⟩
theorem d_m_read_189 : DD b_m_read 189 (.aload_n 0) 1 190 := ⟨by decide +kernel, rfl⟩
theorem d_m_read_190 : DD b_m_read 190 (.iload_n 1) 1 191 := ⟨by decide +kernel, rfl⟩
theorem d_m_read_191 : DD b_m_read 191 (.invokevirtual 87) 3 194 := ⟨by decide +kernel, rfl⟩
theorem d_m_read_194 : DD b_m_read 194 .ireturn 1 195 := ⟨by decide +kernel, rfl⟩
set_option maxRecDepth 20000 in
set_option maxHeartbeats 4000000 in
theorem c_m_read (l : Launch) (G : ZG) {p0 p1 : Int} {σ : Mem} {K : Int → Mem → Prop} (h : wp_m_read p0 p1 σ K) (h_p0 : okI p0) (h_p1 : okI p1) : Ct l G y_m_read (.code y_m_read b_m_read 7 (some .int)) { frames := 2, cells := 0, slots := 0, locals := 50 } 0 0 1 [.ref (zA G 45), .int (iI p0), .int (iI p1)] σ K (fun _ _ => False) := by
  unfold wp_m_read at h
  refine Ct.ofZ [(0, .ref (zA G 45)), (1, .int (iI p0)), (2, .int (iI p1))] "LimbDeskModel" (by decide) rfl (Nat.le_of_ble_eq_true rfl) rfl ?_
  intro E hR hlE C hr hX
  subst hlE
  have hroom_m_digit : 1 + 1 ≤ (zR E).frames ∧ 8 + (1 + 11) + 22 ≤ (zR E).locals ∧ 0 + 0 ≤ (zR E).cells ∧ 0 + 0 ≤ (zR E).slots := by rw [hR]; decide
  have hroom_m_fails : 0 + 1 ≤ (zR E).frames ∧ 8 + (3 + 11) + 0 ≤ (zR E).locals ∧ 0 + 0 ≤ (zR E).cells ∧ 0 + 0 ≤ (zR E).slots := by rw [hR]; decide
  have hroom_m_in : 0 + 1 ≤ (zR E).frames ∧ 8 + (3 + 11) + 0 ≤ (zR E).locals ∧ 0 + 0 ≤ (zR E).cells ∧ 0 + 0 ≤ (zR E).slots := by rw [hR]; decide
  have hroom_m_isRegister : 1 + 1 ≤ (zR E).frames ∧ 8 + (1 + 11) + 22 ≤ (zR E).locals ∧ 0 + 0 ≤ (zR E).cells ∧ 0 + 0 ≤ (zR E).slots := by rw [hR]; decide
  have hroom_m_keep : 1 + 1 ≤ (zR E).frames ∧ 8 + (8 + 11) + 23 ≤ (zR E).locals ∧ 0 + 0 ≤ (zR E).cells ∧ 0 + 0 ≤ (zR E).slots := by rw [hR]; decide
  have hroom_m_size0 : 1 + 1 ≤ (zR E).frames ∧ 8 + (3 + 11) + 23 ≤ (zR E).locals ∧ 0 + 0 ≤ (zR E).cells ∧ 0 + 0 ≤ (zR E).slots := by rw [hR]; decide
  have hroom_m_timesSmall : 0 + 1 ≤ (zR E).frames ∧ 8 + (7 + 11) + 0 ≤ (zR E).locals ∧ 0 + 0 ≤ (zR E).cells ∧ 0 + 0 ≤ (zR E).slots := by rw [hR]; decide
  clear hR
  obtain ⟨Q, hQ⟩ : ∃ Q, Q = MQX G (zb E) 1 K (fun _ _ => False) (zs E) 0 0 0 0 := ⟨_, rfl⟩
  show Z E G 7 0 0 (MQX G (zb E) 1 K (fun _ _ => False) (zs E) 0 0 0 0) σ 0 [(0, .ref (zA G 45)), (1, .int (iI p0)), (2, .int (iI p1))] []
  rw [← hQ]
  refine z_aload_n C 0 d_m_read_0 rfl ?_
  refine z_iconst C d_m_read_1 ?_
  refine z_mput_err C d_m_read_2 k_460 ?_
  refine z_aload_n C 0 d_m_read_5 rfl ?_
  refine z_mget C 1 d_m_read_6 (by decide) k_461 rfl rfl ?_
  refine z_namei (fun v3_1 e2 => ?_)
  have h := h v3_1 e2
  refine z_istore_n C [(3, .int (iI v3_1)), (0, .ref (zA G 45)), (1, .int (iI p0)), (2, .int (iI p1))] d_m_read_9 (by decide) rfl ?_
  refine z_iload_n C 0 d_m_read_10 rfl ?_
  obtain ⟨ok3, h⟩ := h
  refine Jq1.walk (fun s4 => okI s4 → Z E G 7 0 0 Q (mS σ 45 0 0) 30 [(0, .ref (zA G 45)), (1, .int (iI p0)), (2, .int (iI p1)), (3, .int (iI v3_1))] [.int (iI s4)]) h ?_ ?_
  · intro s4 h ok5
    refine z_istore C [(4, .int (iI s4)), (0, .ref (zA G 45)), (1, .int (iI p0)), (2, .int (iI p1)), (3, .int (iI v3_1))] d_m_read_30 (by decide) rfl ?_
    refine z_iconst C d_m_read_32 ?_
    refine z_istore C [(5, .int (iI 0)), (4, .int (iI s4)), (0, .ref (zA G 45)), (1, .int (iI p0)), (2, .int (iI p1)), (3, .int (iI v3_1))] d_m_read_33 (by decide) rfl ?_
    refine z_aload_n C 2 d_m_read_35 rfl ?_
    refine z_iconst C d_m_read_36 ?_
    refine z_mput_length C d_m_read_37 k_461 ?_
    refine z_aload_n C 2 d_m_read_40 rfl ?_
    refine z_iload_n C 3 d_m_read_41 rfl ?_
    refine z_callS C [.int (iI p0)] [.ref (zA G 45)] 1 d_m_read_42 (c_m_isRegister (zl E) G h h_p0) k_519 k_517 k_518 k_3 (by decide)  (by decide +kernel) rfl rfl (Nat.le_of_ble_eq_true rfl) hroom_m_isRegister (fun r7 _s69 ok8 hq => ?_) (fun _ _ hx => hx.elim)
    obtain ⟨hs_, hk_⟩ := hq
    subst hs_
    have h := hk_
    refine Jq1.walk (fun s9 => okI s9 → Z E G 7 0 0 Q (mS (mS σ 45 0 0) 45 1 0) 69 [(0, .ref (zA G 45)), (1, .int (iI p0)), (2, .int (iI p1)), (3, .int (iI v3_1)), (4, .int (iI s4)), (5, .int (iI 0))] [.int (iI s9), .ref (zA G 45)]) h ?_ ?_
    · intro s9 h ok10
      refine z_iconst C d_m_read_69 ?_
      refine z_callV C "LimbDeskModel" [.int (iI s9), .int (iI 1)] [] 2 d_m_read_70 (c_m_fails (zl E) G h ok10 (okI_lit rfl)) k_526 k_523 k_525 k_s6 k_3 (by decide) (recv_M C) (by decide +kernel) rfl rfl (Nat.le_of_ble_eq_true rfl) hroom_m_fails (fun r12 σ13 ok14 hq => ?_) (fun _ _ hx => hx.elim)
      have h := hq
      refine z_if_eq C d_m_read_73 (okI_b ok14) (fun hb15 => ?_) (fun hb15 => ?_)
      · have h := h.1 hb15
        refine z_iload C 4 d_m_read_78 rfl ?_
        refine z_istore C [(6, .int (iI s4)), (0, .ref (zA G 45)), (1, .int (iI p0)), (2, .int (iI p1)), (3, .int (iI v3_1)), (4, .int (iI s4)), (5, .int (iI 0))] d_m_read_80 (by decide) rfl ?_
        refine z_sub [(0, .ref (zA G 45)), (1, .int (iI p0)), (2, .int (iI p1)), (3, .int (iI v3_1)), (4, .int (iI s4)), (5, .int (iI 0)), (6, .int (iI s4))] [1, 2, 3, 4, 5, 6, 0] rfl ?_
        refine (Lo1.walk (P := fun v6_16 σ17 => okI v6_16 → Z E G 7 0 0 Q σ17 82 [(0, .ref (zA G 45)), (1, .int (iI p0)), (2, .int (iI p1)), (3, .int (iI v3_1)), (4, .int (iI s4)), (5, .int (iI 0)), (6, .int (iI v6_16))] []) ?_ h) ok5
        intro v6_16 σ17 again19 Hagain19 h ok18
        refine z_iload C 6 d_m_read_82 rfl ?_
        refine z_iload_n C 3 d_m_read_84 rfl ?_
        refine z_icmp_ge C d_m_read_85 ok18 ok3 (fun hb20 => ?_) (fun hb20 => ?_)
        · have h := h.1 hb20
          refine z_iload C 4 d_m_read_123 rfl ?_
          refine z_istore C [(6, .int (iI s4)), (0, .ref (zA G 45)), (1, .int (iI p0)), (2, .int (iI p1)), (3, .int (iI v3_1)), (4, .int (iI s4)), (5, .int (iI 0))] d_m_read_125 (by decide) rfl ?_
          refine z_sub [(0, .ref (zA G 45)), (1, .int (iI p0)), (2, .int (iI p1)), (3, .int (iI v3_1)), (4, .int (iI s4)), (5, .int (iI 0)), (6, .int (iI s4))] [1, 2, 3, 4, 5, 6, 0] rfl ?_
          refine (Lo2.walk (P := fun v5_21 v6_22 σ23 => okI v5_21 → okI v6_22 → Z E G 7 0 0 Q σ23 127 [(0, .ref (zA G 45)), (1, .int (iI p0)), (2, .int (iI p1)), (3, .int (iI v3_1)), (4, .int (iI s4)), (5, .int (iI v5_21)), (6, .int (iI v6_22))] []) ?_ h) (okI_lit rfl) ok5
          intro v5_21 v6_22 σ23 again26 Hagain26 h ok24 ok25
          refine z_iload C 6 d_m_read_127 rfl ?_
          refine z_iload_n C 3 d_m_read_129 rfl ?_
          refine z_icmp_ge C d_m_read_130 ok25 ok3 (fun hb27 => ?_) (fun hb27 => ?_)
          · have h := h.1 hb27
            refine z_aload_n C 0 d_m_read_161 rfl ?_
            refine z_iload_n C 1 d_m_read_162 rfl ?_
            refine z_iload C 4 d_m_read_163 rfl ?_
            refine z_iconst C d_m_read_165 ?_
            have hj : ∀ s29 : Int, s29 = (if s4 ≠ 1 then 1 else (-1)) → Z E G 7 0 0 Q σ23 174 [(0, .ref (zA G 45)), (1, .int (iI p0)), (2, .int (iI p1)), (3, .int (iI v3_1)), (4, .int (iI s4)), (5, .int (iI v5_21)), (6, .int (iI v6_22))] [.int (iI s29), .int (iI p0), .ref (zA G 45)] := by
              intro s29 e30
              have h := h s29 e30
              have ok31 : okI s29 := by rw [e30]; split; exact (okI_lit rfl); exact (okI_lit rfl)
              refine z_aload_n C 0 d_m_read_174 rfl ?_
              refine z_mget C 6 d_m_read_175 (by decide) k_466 rfl rfl ?_
              refine z_iload C 5 d_m_read_178 rfl ?_
              refine z_iconst C d_m_read_180 ?_
              refine z_callV C "LimbDeskModel" [.int (iI p0), .int (iI s29), .ref (zA G 50), .int (iI v5_21), .int (iI 2)] [] 5 d_m_read_181 (c_m_keep (zl E) G h h_p0 ok31 (Or.inr ⟨by decide, by decide⟩) ok24 (okI_lit rfl)) k_542 k_539 k_541 k_s9 k_3 (by decide) (recv_M C) (by decide +kernel) rfl rfl (Nat.le_of_ble_eq_true rfl) hroom_m_keep (fun r32 σ33 ok34 hq => ?_) (fun _ _ hx => hx.elim)
              have h := hq
              refine z_if_ne C d_m_read_184 (okI_b ok34) (fun hb35 => ?_) (fun hb35 => ?_)
              · have h := h.1 hb35
                refine z_aload_n C 0 d_m_read_189 rfl ?_
                refine z_iload_n C 1 d_m_read_190 rfl ?_
                refine z_callV C "LimbDeskModel" [.int (iI p0)] [] 1 d_m_read_191 (c_m_size0 (zl E) G h h_p0) k_530 k_527 k_529 k_s7 k_3 (by decide) (recv_M C) (by decide +kernel) rfl rfl (Nat.le_of_ble_eq_true rfl) hroom_m_size0 (fun r36 σ37 ok38 hq => ?_) (fun _ _ hx => hx.elim)
                have h := hq
                subst hQ
                exact z_ireturn C d_m_read_194.1 hr ⟨Nat.zero_le _, Nat.zero_le _⟩ ok38 h
              · have h := h.2 hb35
                refine z_iconst C d_m_read_187 ?_
                subst hQ
                exact z_ireturn C d_m_read_188.1 hr ⟨Nat.zero_le _, Nat.zero_le _⟩ (okI_lit rfl) h
            clear h
            refine z_icmp_ne C d_m_read_166 ok5 (okI_lit rfl) (fun hb28 => ?_) (fun hb28 => ?_)
            · refine z_iconst C d_m_read_173 ?_
              exact hj _ (if_pos hb28).symm
            · refine z_iconst C d_m_read_169 ?_
              refine z_goto C d_m_read_170 ?_
              exact hj _ (if_neg (not_not_intro hb28)).symm
          · have h := h.2 hb27
            refine z_aload_n C 0 d_m_read_133 rfl ?_
            refine z_mget C 6 d_m_read_134 (by decide) k_466 rfl rfl ?_
            refine z_iload C 5 d_m_read_137 rfl ?_
            refine z_iload_n C 2 d_m_read_139 rfl ?_
            refine z_aload_n C 0 d_m_read_140 rfl ?_
            refine z_mget C 5 d_m_read_141 (by decide) k_465 rfl rfl ?_
            refine z_iload C 6 d_m_read_144 rfl ?_
            obtain ⟨hc39, h⟩ := h
            refine z_ialdN C (2100) d_m_read_146 (Or.inr ⟨by decide, by decide⟩) (by decide) hc39 ?_
            obtain ⟨ok40, h⟩ := h
            refine z_callS C [.int (iI (σ23 49 v6_22))] [.int (iI p1), .int (iI v5_21), .ref (zA G 50)] 1 d_m_read_147 (c_m_digit (zl E) G h ok40) k_557 k_555 k_556 k_3 (by decide)  (by decide +kernel) rfl rfl (Nat.le_of_ble_eq_true rfl) hroom_m_digit (fun r41 _s47 ok42 hq => ?_) (fun _ _ hx => hx.elim)
            obtain ⟨hs_, hk_⟩ := hq
            subst hs_
            have h := hk_
            refine z_callS C [.ref (zA G 50), .int (iI v5_21), .int (iI p1), .int (iI r41)] [] 4 d_m_read_150 (c_m_timesSmall (zl E) G h (Or.inr ⟨by decide, by decide⟩) ok24 h_p1 ok42) k_560 k_558 k_559 k_3 (by decide)  (by decide +kernel) rfl rfl (Nat.le_of_ble_eq_true rfl) hroom_m_timesSmall (fun r43 σ44 ok45 hq => ?_) (fun _ _ hx => hx.elim)
            have h := hq
            refine z_istore C [(5, .int (iI r43)), (0, .ref (zA G 45)), (1, .int (iI p0)), (2, .int (iI p1)), (3, .int (iI v3_1)), (4, .int (iI s4)), (6, .int (iI v6_22))] d_m_read_153 (by decide) rfl ?_
            refine z_iinc C 6 [(6, .int (iI (v6_22 + 1))), (5, .int (iI r43)), (0, .ref (zA G 45)), (1, .int (iI p0)), (2, .int (iI p1)), (3, .int (iI v3_1)), (4, .int (iI s4))] d_m_read_155 rfl (by decide) rfl ?_
            refine z_goto C d_m_read_158 ?_
            obtain ⟨ok46, h⟩ := h
            refine z_sub [(0, .ref (zA G 45)), (1, .int (iI p0)), (2, .int (iI p1)), (3, .int (iI v3_1)), (4, .int (iI s4)), (5, .int (iI r43)), (6, .int (iI (v6_22 + 1)))] [2, 3, 4, 5, 6, 1, 0] rfl ?_
            exact Hagain26 _ _ _ h ok45 ok46
        · have h := h.2 hb20
          refine z_aload_n C 0 d_m_read_88 rfl ?_
          refine z_aload_n C 0 d_m_read_89 rfl ?_
          refine z_mget C 5 d_m_read_90 (by decide) k_465 rfl rfl ?_
          refine z_iload C 6 d_m_read_93 rfl ?_
          obtain ⟨hc48, h⟩ := h
          refine z_ialdN C (2100) d_m_read_95 (Or.inr ⟨by decide, by decide⟩) (by decide) hc48 ?_
          obtain ⟨ok49, h⟩ := h
          refine z_callS C [.int (iI (σ17 49 v6_16))] [.ref (zA G 45)] 1 d_m_read_96 (c_m_digit (zl E) G h ok49) k_557 k_555 k_556 k_3 (by decide)  (by decide +kernel) rfl rfl (Nat.le_of_ble_eq_true rfl) hroom_m_digit (fun r50 _s61 ok51 hq => ?_) (fun _ _ hx => hx.elim)
          obtain ⟨hs_, hk_⟩ := hq
          subst hs_
          have h := hk_
          refine z_iload_n C 2 d_m_read_99 rfl ?_
          have hj : ∀ s53 : Int, s53 = (if r50 < p1 then 0 else 1) → Z E G 7 0 0 Q σ17 108 [(0, .ref (zA G 45)), (1, .int (iI p0)), (2, .int (iI p1)), (3, .int (iI v3_1)), (4, .int (iI s4)), (5, .int (iI 0)), (6, .int (iI v6_16))] [.int (iI s53), .ref (zA G 45)] := by
            intro s53 e54
            have h := h s53 e54
            have ok55 : okI s53 := by rw [e54]; split; exact (okI_lit rfl); exact (okI_lit rfl)
            refine z_iconst C d_m_read_108 ?_
            refine z_callV C "LimbDeskModel" [.int (iI s53), .int (iI 1)] [] 2 d_m_read_109 (c_m_fails (zl E) G h ok55 (okI_lit rfl)) k_526 k_523 k_525 k_s6 k_3 (by decide) (recv_M C) (by decide +kernel) rfl rfl (Nat.le_of_ble_eq_true rfl) hroom_m_fails (fun r56 σ57 ok58 hq => ?_) (fun _ _ hx => hx.elim)
            have h := hq
            refine z_if_eq C d_m_read_112 (okI_b ok58) (fun hb59 => ?_) (fun hb59 => ?_)
            · have h := h.1 hb59
              refine z_iinc C 6 [(6, .int (iI (v6_16 + 1))), (0, .ref (zA G 45)), (1, .int (iI p0)), (2, .int (iI p1)), (3, .int (iI v3_1)), (4, .int (iI s4)), (5, .int (iI 0))] d_m_read_117 rfl (by decide) rfl ?_
              refine z_goto C d_m_read_120 ?_
              obtain ⟨ok60, h⟩ := h
              refine z_sub [(0, .ref (zA G 45)), (1, .int (iI p0)), (2, .int (iI p1)), (3, .int (iI v3_1)), (4, .int (iI s4)), (5, .int (iI 0)), (6, .int (iI (v6_16 + 1)))] [1, 2, 3, 4, 5, 6, 0] rfl ?_
              exact Hagain19 _ _ h ok60
            · have h := h.2 hb59
              refine z_iconst C d_m_read_115 ?_
              subst hQ
              exact z_ireturn C d_m_read_116.1 hr ⟨Nat.zero_le _, Nat.zero_le _⟩ (okI_lit rfl) h
          clear h
          refine z_icmp_lt C d_m_read_100 ok51 h_p1 (fun hb52 => ?_) (fun hb52 => ?_)
          · refine z_iconst C d_m_read_107 ?_
            exact hj _ (if_pos hb52).symm
          · refine z_iconst C d_m_read_103 ?_
            refine z_goto C d_m_read_104 ?_
            exact hj _ (if_neg (Int.not_lt.mpr hb52)).symm
      · have h := h.2 hb15
        refine z_iconst C d_m_read_76 ?_
        subst hQ
        exact z_ireturn C d_m_read_77.1 hr ⟨Nat.zero_le _, Nat.zero_le _⟩ (okI_lit rfl) h
    · intro J11 HJ11 h
      refine Jq0.walk (Z E G 7 0 0 Q (mS (mS σ 45 0 0) 45 1 0) 64 [(0, .ref (zA G 45)), (1, .int (iI p0)), (2, .int (iI p1)), (3, .int (iI v3_1)), (4, .int (iI s4)), (5, .int (iI 0))] [.ref (zA G 45)]) h ?_ ?_
      · intro h
        refine z_iconst C d_m_read_64 ?_
        refine z_goto C d_m_read_65 ?_
        refine z_sub [(0, .ref (zA G 45)), (1, .int (iI p0)), (2, .int (iI p1)), (3, .int (iI v3_1)), (4, .int (iI s4)), (5, .int (iI 0))] [0, 1, 2, 3, 4, 5] rfl ?_
        exact HJ11 _ h (okI_lit rfl)
      · intro J62 HJ62 h
        refine z_if_eq C d_m_read_45 (okI_b ok8) (fun hb63 => ?_) (fun hb63 => ?_)
        · have h := h.1 hb63
          refine z_sub [(0, .ref (zA G 45)), (1, .int (iI p0)), (2, .int (iI p1)), (3, .int (iI v3_1)), (4, .int (iI s4)), (5, .int (iI 0))] [2, 3, 4, 5, 1, 0] rfl ?_
          exact HJ62 h
        · have h := h.2 hb63
          refine z_iload_n C 4 d_m_read_48 rfl ?_
          refine z_iconst C d_m_read_49 ?_
          refine z_bipush C d_m_read_50 (by decide) ?_
          refine z_callS C [.int (iI p1), .int (iI 2), .int (iI 36)] [.ref (zA G 45)] 3 d_m_read_52 (c_m_in (zl E) G h h_p1 (okI_lit rfl) (okI_lit rfl)) k_522 k_520 k_521 k_3 (by decide)  (by decide +kernel) rfl rfl (Nat.le_of_ble_eq_true rfl) hroom_m_in (fun r64 _s68 ok65 hq => ?_) (fun _ _ hx => hx.elim)
          obtain ⟨hs_, hk_⟩ := hq
          subst hs_
          have h := hk_
          refine z_if_eq C d_m_read_55 (okI_b ok65) (fun hb66 => ?_) (fun hb66 => ?_)
          · have h := h.1 hb66
            refine z_sub [(0, .ref (zA G 45)), (1, .int (iI p0)), (2, .int (iI p1)), (3, .int (iI v3_1)), (4, .int (iI s4)), (5, .int (iI 0))] [2, 3, 4, 5, 1, 0] rfl ?_
            exact HJ62 h
          · have h := h.2 hb66
            refine z_iload_n C 5 d_m_read_58 rfl ?_
            refine z_iload C 1 d_m_read_59 rfl ?_
            refine z_icmp_ne C d_m_read_61 ok3 ok5 (fun hb67 => ?_) (fun hb67 => ?_)
            · have h := h.1 hb67
              refine z_iconst C d_m_read_68 ?_
              refine z_sub [(0, .ref (zA G 45)), (1, .int (iI p0)), (2, .int (iI p1)), (3, .int (iI v3_1)), (4, .int (iI s4)), (5, .int (iI 0))] [2, 3, 4, 5, 1, 0] rfl ?_
              exact HJ11 _ h (okI_lit rfl)
            · have h := h.2 hb67
              refine z_sub [(0, .ref (zA G 45)), (1, .int (iI p0)), (2, .int (iI p1)), (3, .int (iI v3_1)), (4, .int (iI s4)), (5, .int (iI 0))] [2, 3, 4, 5, 1, 0] rfl ?_
              exact HJ62 h
  · intro J6 HJ6 h
    refine Jq0.walk (Z E G 7 0 0 Q (mS σ 45 0 0) 29 [(0, .ref (zA G 45)), (1, .int (iI p0)), (2, .int (iI p1)), (3, .int (iI v3_1))] []) h ?_ ?_
    · intro h
      refine z_iconst C d_m_read_29 ?_
      refine z_sub [(0, .ref (zA G 45)), (1, .int (iI p0)), (2, .int (iI p1)), (3, .int (iI v3_1))] [0, 1, 2, 3] rfl ?_
      exact HJ6 _ h (okI_lit rfl)
    · intro J70 HJ70 h
      refine z_if_le C d_m_read_11 ok3 (fun hb71 => ?_) (fun hb71 => ?_)
      · have h := h.1 hb71
        refine z_sub [(0, .ref (zA G 45)), (1, .int (iI p0)), (2, .int (iI p1)), (3, .int (iI v3_1))] [1, 2, 3, 0] rfl ?_
        exact HJ70 h
      · have h := h.2 hb71
        refine z_aload_n C 1 d_m_read_14 rfl ?_
        refine z_mget C 5 d_m_read_15 (by decide) k_465 rfl rfl ?_
        refine z_iconst C d_m_read_18 ?_
        refine z_ialdN C (2100) d_m_read_19 (Or.inr ⟨by decide, by decide⟩) (by decide) ⟨by decide, by decide⟩ ?_
        refine z_bipush C d_m_read_20 (by decide) ?_
        obtain ⟨ok72, h⟩ := h
        refine z_icmp_ne C d_m_read_22 ok72 (okI_lit rfl) (fun hb73 => ?_) (fun hb73 => ?_)
        · have h := h.1 hb73
          refine z_sub [(0, .ref (zA G 45)), (1, .int (iI p0)), (2, .int (iI p1)), (3, .int (iI v3_1))] [1, 2, 3, 0] rfl ?_
          exact HJ70 h
        · have h := h.2 hb73
          refine z_iconst C d_m_read_25 ?_
          refine z_goto C d_m_read_26 ?_
          refine z_sub [(0, .ref (zA G 45)), (1, .int (iI p0)), (2, .int (iI p1)), (3, .int (iI v3_1))] [1, 2, 3, 0] rfl ?_
          exact HJ6 _ h (okI_lit rfl)
theorem d_m_show_0 : DD b_m_show 0 (.aload_n 0) 1 1 := ⟨by decide +kernel, rfl⟩
theorem d_m_show_1 : DD b_m_show 1 (.iconst 0) 1 2 := ⟨by decide +kernel, rfl⟩
theorem d_m_show_2 : DD b_m_show 2 (.putfield 49) 3 5 := ⟨by decide +kernel, rfl⟩
theorem d_m_show_5 : DD b_m_show 5 (.aload_n 0) 1 6 := ⟨by decide +kernel, rfl⟩
theorem d_m_show_6 : DD b_m_show 6 (.iload_n 1) 1 7 := ⟨by decide +kernel, rfl⟩
theorem d_m_show_7 : DD b_m_show 7 (.invokestatic 83) 3 10 := ⟨by decide +kernel, rfl⟩
theorem d_m_show_10 : DB b_m_show 10 (.ifCond .eq 13) 13 13 23 := ⟨by decide +kernel, rfl, rfl⟩
theorem d_m_show_13 : DD b_m_show 13 (.iload_n 2) 1 14 := ⟨by decide +kernel, rfl⟩
theorem d_m_show_14 : DD b_m_show 14 (.iconst 2) 1 15 := ⟨by decide +kernel, rfl⟩
theorem d_m_show_15 : DD b_m_show 15 (.bipush 36) 2 17 := ⟨by decide +kernel, rfl⟩
theorem d_m_show_17 : DD b_m_show 17 (.invokestatic 68) 3 20 := ⟨by decide +kernel, rfl⟩
theorem d_m_show_20 : DB b_m_show 20 (.ifCond .ne 7) 7 23 27 := ⟨by decide +kernel, rfl, rfl⟩
theorem d_m_show_23 : DD b_m_show 23 (.iconst 1) 1 24 := ⟨by decide +kernel, rfl⟩
theorem d_m_show_24 : DB b_m_show 24 (.goto 4) 4 27 28 := ⟨by decide +kernel, rfl, rfl⟩
theorem d_m_show_27 : DD b_m_show 27 (.iconst 0) 1 28 := ⟨by decide +kernel, rfl⟩
theorem d_m_show_28 : DD b_m_show 28 (.iconst 1) 1 29 := ⟨by decide +kernel, rfl⟩
theorem d_m_show_29 : DD b_m_show 29 (.invokevirtual 79) 3 32 := ⟨by decide +kernel, rfl⟩
theorem d_m_show_32 : DB b_m_show 32 (.ifCond .eq 5) 5 35 37 := ⟨by decide +kernel, rfl, rfl⟩
theorem d_m_show_35 : DD b_m_show 35 (.iconst 0) 1 36 := ⟨by decide +kernel, rfl⟩
theorem d_m_show_36 : DD b_m_show 36 .ireturn 1 37 := ⟨by decide +kernel, rfl⟩
theorem d_m_show_37 : DD b_m_show 37 (.aload_n 0) 1 38 := ⟨by decide +kernel, rfl⟩
theorem d_m_show_38 : DD b_m_show 38 (.iload_n 1) 1 39 := ⟨by decide +kernel, rfl⟩
theorem d_m_show_39 : DD b_m_show 39 (.aload_n 0) 1 40 := ⟨by decide +kernel, rfl⟩
theorem d_m_show_40 : DD b_m_show 40 (.getfield 22) 3 43 := ⟨by decide +kernel, rfl⟩
theorem d_m_show_43 : DD b_m_show 43 (.invokevirtual 72) 3 46 := ⟨by decide +kernel, rfl⟩
theorem d_m_show_46 : DD b_m_show 46 (.istore_n 3) 1 47 := ⟨by decide +kernel, rfl⟩
theorem d_m_show_47 : DD b_m_show 47 (.iconst 0) 1 48 := ⟨by decide +kernel, rfl⟩
theorem d_m_show_48 : DD b_m_show 48 (.istore 4) 2 50 := ⟨by decide +kernel, rfl⟩
theorem d_m_show_50 : DD b_m_show 50 (.iload_n 3) 1 51 := ⟨by decide +kernel, rfl⟩
theorem d_m_show_51 : DB b_m_show 51 (.ifCond .le 83) 83 54 134 := ⟨by decide +kernel, rfl, rfl⟩
theorem d_m_show_54 : DD b_m_show 54 (.lconst 0) 1 55 := ⟨by decide +kernel, rfl⟩
theorem d_m_show_55 : DD b_m_show 55 (.lstore 5) 2 57 := ⟨by decide +kernel, rfl⟩
theorem d_m_show_57 : DD b_m_show 57 (.iload_n 3) 1 58 := ⟨by decide +kernel, rfl⟩
theorem d_m_show_58 : DD b_m_show 58 (.iconst 1) 1 59 := ⟨by decide +kernel, rfl⟩
theorem d_m_show_59 : DD b_m_show 59 .isub 1 60 := ⟨by decide +kernel, rfl⟩
theorem d_m_show_60 : DD b_m_show 60 (.istore 7) 2 62 := ⟨by decide +kernel, rfl⟩
theorem d_m_show_62 : DD b_m_show 62 (.iload 7) 2 64 := ⟨by decide +kernel, rfl⟩
theorem d_m_show_64 : DB b_m_show 64 (.ifCond .lt 45) 45 67 109 := ⟨by decide +kernel, rfl, rfl⟩
theorem d_m_show_67 : DD b_m_show 67 (.lload 5) 2 69 := ⟨by decide +kernel, rfl⟩
theorem d_m_show_69 : DD b_m_show 69 (.bipush 16) 2 71 := ⟨by decide +kernel, rfl⟩
theorem d_m_show_71 : DD b_m_show 71 .lshl 1 72 := ⟨by decide +kernel, rfl⟩
theorem d_m_show_72 : DD b_m_show 72 (.aload_n 0) 1 73 := ⟨by decide +kernel, rfl⟩
theorem d_m_show_73 : DD b_m_show 73 (.getfield 22) 3 76 := ⟨by decide +kernel, rfl⟩
theorem d_m_show_76 : DD b_m_show 76 (.iload 7) 2 78 := ⟨by decide +kernel, rfl⟩
theorem d_m_show_78 : DD b_m_show 78 .iaload 1 79 := ⟨by decide +kernel, rfl⟩
theorem d_m_show_79 : DD b_m_show 79 .i2l 1 80 := ⟨by decide +kernel, rfl⟩
theorem d_m_show_80 : DD b_m_show 80 .lor 1 81 := ⟨by decide +kernel, rfl⟩
theorem d_m_show_81 : DD b_m_show 81 (.lstore 5) 2 83 := ⟨by decide +kernel, rfl⟩
theorem d_m_show_83 : DD b_m_show 83 (.aload_n 0) 1 84 := ⟨by decide +kernel, rfl⟩
theorem d_m_show_84 : DD b_m_show 84 (.getfield 22) 3 87 := ⟨by decide +kernel, rfl⟩
theorem d_m_show_87 : DD b_m_show 87 (.iload 7) 2 89 := ⟨by decide +kernel, rfl⟩
theorem d_m_show_89 : DD b_m_show 89 (.lload 5) 2 91 := ⟨by decide +kernel, rfl⟩
theorem d_m_show_91 : DD b_m_show 91 (.iload_n 2) 1 92 := ⟨by decide +kernel, rfl⟩
theorem d_m_show_92 : DD b_m_show 92 .i2l 1 93 := ⟨by decide +kernel, rfl⟩
theorem d_m_show_93 : DD b_m_show 93 .ldiv 1 94 := ⟨by decide +kernel, rfl⟩
theorem d_m_show_94 : DD b_m_show 94 .l2i 1 95 := ⟨by decide +kernel, rfl⟩
theorem d_m_show_95 : DD b_m_show 95 .iastore 1 96 := ⟨by decide +kernel, rfl⟩
theorem d_m_show_96 : DD b_m_show 96 (.lload 5) 2 98 := ⟨by decide +kernel, rfl⟩
theorem d_m_show_98 : DD b_m_show 98 (.iload_n 2) 1 99 := ⟨by decide +kernel, rfl⟩
theorem d_m_show_99 : DD b_m_show 99 .i2l 1 100 := ⟨by decide +kernel, rfl⟩
theorem d_m_show_100 : DD b_m_show 100 .lrem 1 101 := ⟨by decide +kernel, rfl⟩
theorem d_m_show_101 : DD b_m_show 101 (.lstore 5) 2 103 := ⟨by decide +kernel, rfl⟩
theorem d_m_show_103 : DD b_m_show 103 (.iinc 7 (-1)) 3 106 := ⟨by decide +kernel, rfl⟩
theorem d_m_show_106 : DB b_m_show 106 (.goto (-44)) (-44) 109 62 := ⟨by decide +kernel, rfl, rfl⟩
theorem d_m_show_109 : DD b_m_show 109 (.aload_n 0) 1 110 := ⟨by decide +kernel, rfl⟩
theorem d_m_show_110 : DD b_m_show 110 (.getfield 22) 3 113 := ⟨by decide +kernel, rfl⟩
theorem d_m_show_113 : DD b_m_show 113 (.iload_n 3) 1 114 := ⟨by decide +kernel, rfl⟩
theorem d_m_show_114 : DD b_m_show 114 (.invokestatic 54) 3 117 := ⟨by decide +kernel, rfl⟩
theorem d_m_show_117 : DD b_m_show 117 (.istore_n 3) 1 118 := ⟨by decide +kernel, rfl⟩
theorem d_m_show_118 : DD b_m_show 118 (.aload_n 0) 1 119 := ⟨by decide +kernel, rfl⟩
theorem d_m_show_119 : DD b_m_show 119 (.getfield 25) 3 122 := ⟨by decide +kernel, rfl⟩
theorem d_m_show_122 : DD b_m_show 122 (.iload 4) 2 124 := ⟨by decide +kernel, rfl⟩
theorem d_m_show_124 : DD b_m_show 124 (.iinc 4 1) 3 127 := ⟨by decide +kernel, rfl⟩
theorem d_m_show_127 : DD b_m_show 127 (.lload 5) 2 129 := ⟨by decide +kernel, rfl⟩
theorem d_m_show_129 : DD b_m_show 129 .l2i 1 130 := ⟨by decide +kernel, rfl⟩
theorem d_m_show_130 : DD b_m_show 130 .iastore 1 131 := ⟨by decide +kernel, rfl⟩
theorem d_m_show_131 : DB b_m_show 131 (.goto (-81)) (-81) 134 50 := ⟨by decide +kernel, rfl, rfl⟩
theorem d_m_show_134 : DD b_m_show 134 (.iload 4) 2 136 := ⟨by decide +kernel, rfl⟩
theorem d_m_show_136 : DB b_m_show 136 (.ifCond .ne 14) 14 139 150 := ⟨by decide +kernel, rfl, rfl⟩
theorem d_m_show_139 : DD b_m_show 139 (.aload_n 0) 1 140 := ⟨by decide +kernel, rfl⟩
theorem d_m_show_140 : DD b_m_show 140 (.getfield 25) 3 143 := ⟨by decide +kernel, rfl⟩
theorem d_m_show_143 : DD b_m_show 143 (.iload 4) 2 145 := ⟨by decide +kernel, rfl⟩
theorem d_m_show_145 : DD b_m_show 145 (.iinc 4 1) 3 148 := ⟨by decide +kernel, rfl⟩
theorem d_m_show_148 : DD b_m_show 148 (.iconst 0) 1 149 := ⟨by decide +kernel, rfl⟩
theorem d_m_show_149 : DD b_m_show 149 .iastore 1 150 := ⟨by decide +kernel, rfl⟩
theorem d_m_show_150 : DD b_m_show 150 (.aload_n 0) 1 151 := ⟨by decide +kernel, rfl⟩
theorem d_m_show_151 : DD b_m_show 151 (.iconst 0) 1 152 := ⟨by decide +kernel, rfl⟩
theorem d_m_show_152 : DD b_m_show 152 (.putfield 97) 3 155 := ⟨by decide +kernel, rfl⟩
theorem d_m_show_155 : DD b_m_show 155 (.aload_n 0) 1 156 := ⟨by decide +kernel, rfl⟩
theorem d_m_show_156 : DD b_m_show 156 (.getfield 16) 3 159 := ⟨by decide +kernel, rfl⟩
theorem d_m_show_159 : DD b_m_show 159 (.iload_n 1) 1 160 := ⟨by decide +kernel, rfl⟩
theorem d_m_show_160 : DD b_m_show 160 .iaload 1 161 := ⟨by decide +kernel, rfl⟩
theorem d_m_show_161 : DB b_m_show 161 (.ifCond .ge 21) 21 164 182 := ⟨by decide +kernel, rfl, rfl⟩
theorem d_m_show_164 : DD b_m_show 164 (.aload_n 0) 1 165 := ⟨by decide +kernel, rfl⟩
theorem d_m_show_165 : DD b_m_show 165 (.getfield 19) 3 168 := ⟨by decide +kernel, rfl⟩
theorem d_m_show_168 : DD b_m_show 168 (.aload_n 0) 1 169 := ⟨by decide +kernel, rfl⟩
theorem d_m_show_169 : DD b_m_show 169 .dup 1 170 := ⟨by decide +kernel, rfl⟩
theorem d_m_show_170 : DD b_m_show 170 (.getfield 97) 3 173 := ⟨by decide +kernel, rfl⟩
theorem d_m_show_173 : DD b_m_show 173 .dup_x1 1 174 := ⟨by decide +kernel, rfl⟩
theorem d_m_show_174 : DD b_m_show 174 (.iconst 1) 1 175 := ⟨by decide +kernel, rfl⟩
theorem d_m_show_175 : DD b_m_show 175 .iadd 1 176 := ⟨by decide +kernel, rfl⟩
theorem d_m_show_176 : DD b_m_show 176 (.putfield 97) 3 179 := ⟨by decide +kernel, rfl⟩
theorem d_m_show_179 : DD b_m_show 179 (.bipush 45) 2 181 := ⟨by decide +kernel, rfl⟩
theorem d_m_show_181 : DD b_m_show 181 .iastore 1 182 := ⟨by decide +kernel, rfl⟩
theorem d_m_show_182 : DD b_m_show 182 (.iload 4) 2 184 := ⟨by decide +kernel, rfl⟩
theorem d_m_show_184 : DD b_m_show 184 (.iconst 1) 1 185 := ⟨by decide +kernel, rfl⟩
theorem d_m_show_185 : DD b_m_show 185 .isub 1 186 := ⟨by decide +kernel, rfl⟩
theorem d_m_show_186 : DD b_m_show 186 (.istore 5) 2 188 := ⟨by decide +kernel, rfl⟩
theorem d_m_show_188 : DD b_m_show 188 (.iload 5) 2 190 := ⟨by decide +kernel, rfl⟩
theorem d_m_show_190 : DB b_m_show 190 (.ifCond .lt 63) 63 193 253 := ⟨by decide +kernel, rfl, rfl⟩
theorem d_m_show_193 : DD b_m_show 193 (.aload_n 0) 1 194 := ⟨by decide +kernel, rfl⟩
theorem d_m_show_194 : DD b_m_show 194 (.getfield 19) 3 197 := ⟨by decide +kernel, rfl⟩
theorem d_m_show_197 : DD b_m_show 197 (.aload_n 0) 1 198 := ⟨by decide +kernel, rfl⟩
theorem d_m_show_198 : DD b_m_show 198 .dup 1 199 := ⟨by decide +kernel, rfl⟩
theorem d_m_show_199 : DD b_m_show 199 (.getfield 97) 3 202 := ⟨by decide +kernel, rfl⟩
theorem d_m_show_202 : DD b_m_show 202 .dup_x1 1 203 := ⟨by decide +kernel, rfl⟩
theorem d_m_show_203 : DD b_m_show 203 (.iconst 1) 1 204 := ⟨by decide +kernel, rfl⟩
theorem d_m_show_204 : DD b_m_show 204 .iadd 1 205 := ⟨by decide +kernel, rfl⟩
theorem d_m_show_205 : DD b_m_show 205 (.putfield 97) 3 208 := ⟨by decide +kernel, rfl⟩
theorem d_m_show_208 : DD b_m_show 208 (.aload_n 0) 1 209 := ⟨by decide +kernel, rfl⟩
theorem d_m_show_209 : DD b_m_show 209 (.getfield 25) 3 212 := ⟨by decide +kernel, rfl⟩
theorem d_m_show_212 : DD b_m_show 212 (.iload 5) 2 214 := ⟨by decide +kernel, rfl⟩
theorem d_m_show_214 : DD b_m_show 214 .iaload 1 215 := ⟨by decide +kernel, rfl⟩
theorem d_m_show_215 : DD b_m_show 215 (.bipush 10) 2 217 := ⟨by decide +kernel, rfl⟩
theorem d_m_show_217 : DB b_m_show 217 (.if_icmp .ge 16) 16 220 233 := ⟨by decide +kernel, rfl, rfl⟩
theorem d_m_show_220 : DD b_m_show 220 (.bipush 48) 2 222 := ⟨by decide +kernel, rfl⟩
theorem d_m_show_222 : DD b_m_show 222 (.aload_n 0) 1 223 := ⟨by decide +kernel, rfl⟩
theorem d_m_show_223 : DD b_m_show 223 (.getfield 25) 3 226 := ⟨by decide +kernel, rfl⟩
theorem d_m_show_226 : DD b_m_show 226 (.iload 5) 2 228 := ⟨by decide +kernel, rfl⟩
theorem d_m_show_228 : DD b_m_show 228 .iaload 1 229 := ⟨by decide +kernel, rfl⟩
theorem d_m_show_229 : DD b_m_show 229 .iadd 1 230 := ⟨by decide +kernel, rfl⟩
theorem d_m_show_230 : DB b_m_show 230 (.goto 16) 16 233 246 := ⟨by decide +kernel, rfl, rfl⟩
theorem d_m_show_233 : DD b_m_show 233 (.bipush 97) 2 235 := ⟨by decide +kernel, rfl⟩
theorem d_m_show_235 : DD b_m_show 235 (.aload_n 0) 1 236 := ⟨by decide +kernel, rfl⟩
theorem d_m_show_236 : DD b_m_show 236 (.getfield 25) 3 239 := ⟨by decide +kernel, rfl⟩
theorem d_m_show_239 : DD b_m_show 239 (.iload 5) 2 241 := ⟨by decide +kernel, rfl⟩
theorem d_m_show_241 : DD b_m_show 241 .iaload 1 242 := ⟨by decide +kernel, rfl⟩
theorem d_m_show_242 : DD b_m_show 242 .iadd 1 243 := ⟨by decide +kernel, rfl⟩
theorem d_m_show_243 : DD b_m_show 243 (.bipush 10) 2 245 := ⟨by decide +kernel, rfl⟩
theorem d_m_show_245 : DD b_m_show 245 .isub 1 246 := ⟨by decide +kernel, rfl⟩
theorem d_m_show_246 : DD b_m_show 246 .iastore 1 247 := ⟨by decide +kernel, rfl⟩
theorem d_m_show_247 : DD b_m_show 247 (.iinc 5 (-1)) 3 250 := ⟨by decide +kernel, rfl⟩
theorem d_m_show_250 : DB b_m_show 250 (.goto (-62)) (-62) 253 188 := ⟨by decide +kernel, rfl, rfl⟩
theorem d_m_show_253 : DD b_m_show 253 (.aload_n 0) 1 254 := ⟨by decide +kernel, rfl⟩
theorem d_m_show_254 : DD b_m_show 254 (.getfield 97) 3 257 := ⟨by decide +kernel, rfl⟩
theorem d_m_show_257 : DD b_m_show 257 .ireturn 1 258 := ⟨by decide +kernel, rfl⟩
set_option maxRecDepth 20000 in
set_option maxHeartbeats 4000000 in
theorem c_m_show (l : Launch) (G : ZG) {p0 p1 : Int} {σ : Mem} {K : Int → Mem → Prop} (h : wp_m_show p0 p1 σ K) (h_p0 : okI p0) (h_p1 : okI p1) : Ct l G y_m_show (.code y_m_show b_m_show 8 (some .int)) { frames := 2, cells := 0, slots := 0, locals := 42 } 0 0 1 [.ref (zA G 45), .int (iI p0), .int (iI p1)] σ K (fun _ _ => False) := by
  unfold wp_m_show at h
  refine Ct.ofZ [(0, .ref (zA G 45)), (1, .int (iI p0)), (2, .int (iI p1))] "LimbDeskModel" (by decide) rfl (Nat.le_of_ble_eq_true rfl) rfl ?_
  intro E hR hlE C hr hX
  subst hlE
  have hroom_m_fails : 0 + 1 ≤ (zR E).frames ∧ 8 + (3 + 11) + 0 ≤ (zR E).locals ∧ 0 + 0 ≤ (zR E).cells ∧ 0 + 0 ≤ (zR E).slots := by rw [hR]; decide
  have hroom_m_in : 0 + 1 ≤ (zR E).frames ∧ 8 + (3 + 11) + 0 ≤ (zR E).locals ∧ 0 + 0 ≤ (zR E).cells ∧ 0 + 0 ≤ (zR E).slots := by rw [hR]; decide
  have hroom_m_isRegister : 1 + 1 ≤ (zR E).frames ∧ 8 + (1 + 11) + 22 ≤ (zR E).locals ∧ 0 + 0 ≤ (zR E).cells ∧ 0 + 0 ≤ (zR E).slots := by rw [hR]; decide
  have hroom_m_load : 0 + 1 ≤ (zR E).frames ∧ 8 + (4 + 11) + 0 ≤ (zR E).locals ∧ 0 + 0 ≤ (zR E).cells ∧ 0 + 0 ≤ (zR E).slots := by rw [hR]; decide
  have hroom_m_trim : 0 + 1 ≤ (zR E).frames ∧ 8 + (3 + 11) + 0 ≤ (zR E).locals ∧ 0 + 0 ≤ (zR E).cells ∧ 0 + 0 ≤ (zR E).slots := by rw [hR]; decide
  clear hR
  obtain ⟨Q, hQ⟩ : ∃ Q, Q = MQX G (zb E) 1 K (fun _ _ => False) (zs E) 0 0 0 0 := ⟨_, rfl⟩
  show Z E G 8 0 0 (MQX G (zb E) 1 K (fun _ _ => False) (zs E) 0 0 0 0) σ 0 [(0, .ref (zA G 45)), (1, .int (iI p0)), (2, .int (iI p1))] []
  rw [← hQ]
  refine z_aload_n C 0 d_m_show_0 rfl ?_
  refine z_iconst C d_m_show_1 ?_
  refine z_mput_err C d_m_show_2 k_460 ?_
  refine z_aload_n C 0 d_m_show_5 rfl ?_
  refine z_iload_n C 1 d_m_show_6 rfl ?_
  refine z_callS C [.int (iI p0)] [.ref (zA G 45)] 1 d_m_show_7 (c_m_isRegister (zl E) G h h_p0) k_519 k_517 k_518 k_3 (by decide)  (by decide +kernel) rfl rfl (Nat.le_of_ble_eq_true rfl) hroom_m_isRegister (fun r1 _s79 ok2 hq => ?_) (fun _ _ hx => hx.elim)
  obtain ⟨hs_, hk_⟩ := hq
  subst hs_
  have h := hk_
  refine Jq1.walk (fun s3 => okI s3 → Z E G 8 0 0 Q (mS σ 45 0 0) 28 [(0, .ref (zA G 45)), (1, .int (iI p0)), (2, .int (iI p1))] [.int (iI s3), .ref (zA G 45)]) h ?_ ?_
  · intro s3 h ok4
    refine z_iconst C d_m_show_28 ?_
    refine z_callV C "LimbDeskModel" [.int (iI s3), .int (iI 1)] [] 2 d_m_show_29 (c_m_fails (zl E) G h ok4 (okI_lit rfl)) k_526 k_523 k_525 k_s6 k_3 (by decide) (recv_M C) (by decide +kernel) rfl rfl (Nat.le_of_ble_eq_true rfl) hroom_m_fails (fun r6 σ7 ok8 hq => ?_) (fun _ _ hx => hx.elim)
    have h := hq
    refine z_if_eq C d_m_show_32 (okI_b ok8) (fun hb9 => ?_) (fun hb9 => ?_)
    · have h := h.1 hb9
      refine z_aload_n C 0 d_m_show_37 rfl ?_
      refine z_iload_n C 1 d_m_show_38 rfl ?_
      refine z_aload_n C 0 d_m_show_39 rfl ?_
      refine z_mget C 6 d_m_show_40 (by decide) k_466 rfl rfl ?_
      refine z_callV C "LimbDeskModel" [.int (iI p0), .ref (zA G 50)] [] 2 d_m_show_43 (c_m_load (zl E) G h h_p0 (Or.inr ⟨by decide, by decide⟩)) k_534 k_531 k_533 k_s8 k_3 (by decide) (recv_M C) (by decide +kernel) rfl rfl (Nat.le_of_ble_eq_true rfl) hroom_m_load (fun r10 σ11 ok12 hq => ?_) (fun _ _ hx => hx.elim)
      have h := hq
      refine z_istore_n C [(3, .int (iI r10)), (0, .ref (zA G 45)), (1, .int (iI p0)), (2, .int (iI p1))] d_m_show_46 (by decide) rfl ?_
      refine z_iconst C d_m_show_47 ?_
      refine z_istore C [(4, .int (iI 0)), (3, .int (iI r10)), (0, .ref (zA G 45)), (1, .int (iI p0)), (2, .int (iI p1))] d_m_show_48 (by decide) rfl ?_
      refine z_sub [(0, .ref (zA G 45)), (1, .int (iI p0)), (2, .int (iI p1)), (3, .int (iI r10)), (4, .int (iI 0))] [2, 3, 4, 1, 0] rfl ?_
      refine (Lo2.walk (P := fun v3_13 v4_14 σ15 => okI v3_13 → okI v4_14 → Z E G 8 0 0 Q σ15 50 [(0, .ref (zA G 45)), (1, .int (iI p0)), (2, .int (iI p1)), (3, .int (iI v3_13)), (4, .int (iI v4_14))] []) ?_ h) ok12 (okI_lit rfl)
      intro v3_13 v4_14 σ15 again18 Hagain18 h ok16 ok17
      refine z_iload_n C 3 d_m_show_50 rfl ?_
      refine z_if_le C d_m_show_51 ok16 (fun hb19 => ?_) (fun hb19 => ?_)
      · have h := h.1 hb19
        refine z_iload C 4 d_m_show_134 rfl ?_
        refine Jo1.walk (fun v4_20 σ21 => okI v4_20 → Z E G 8 0 0 Q σ21 150 [(0, .ref (zA G 45)), (1, .int (iI p0)), (4, .int (iI v4_20))] []) h ?_ ?_
        · intro v4_20 σ21 h ok22
          refine z_aload_n C 0 d_m_show_150 rfl ?_
          refine z_iconst C d_m_show_151 ?_
          refine z_mput_length C d_m_show_152 k_461 ?_
          refine z_aload_n C 0 d_m_show_155 rfl ?_
          refine z_mget C 4 d_m_show_156 (by decide) k_464 rfl rfl ?_
          refine z_iload_n C 1 d_m_show_159 rfl ?_
          obtain ⟨hc24, h⟩ := h
          refine z_ialdN C (16) d_m_show_160 (Or.inr ⟨by decide, by decide⟩) (by decide) hc24 ?_
          obtain ⟨ok25, h⟩ := h
          refine Jo0.walk (fun σ26 => Z E G 8 0 0 Q σ26 182 [(0, .ref (zA G 45)), (4, .int (iI v4_20))] []) h ?_ ?_
          · intro σ26 h
            refine z_iload C 1 d_m_show_182 rfl ?_
            refine z_iconst C d_m_show_184 ?_
            refine z_isub C d_m_show_185 ?_
            refine z_namei (fun v5_28 e29 => ?_)
            have h := h v5_28 e29
            refine z_istore C [(5, .int (iI v5_28)), (0, .ref (zA G 45)), (4, .int (iI v4_20))] d_m_show_186 (by decide) rfl ?_
            obtain ⟨ok31, h⟩ := h
            refine z_sub [(0, .ref (zA G 45)), (5, .int (iI v5_28))] [1, 0] rfl ?_
            refine (Lo1.walk (P := fun v5_30 σ32 => okI v5_30 → Z E G 8 0 0 Q σ32 188 [(0, .ref (zA G 45)), (5, .int (iI v5_30))] []) ?_ h) ok31
            intro v5_30 σ32 again34 Hagain34 h ok33
            refine z_iload C 1 d_m_show_188 rfl ?_
            refine z_if_lt C d_m_show_190 ok33 (fun hb35 => ?_) (fun hb35 => ?_)
            · have h := h.1 hb35
              refine z_aload_n C 0 d_m_show_253 rfl ?_
              refine z_mget C 1 d_m_show_254 (by decide) k_461 rfl rfl ?_
              obtain ⟨ok36, h⟩ := h
              subst hQ
              exact z_ireturn C d_m_show_257.1 hr ⟨Nat.zero_le _, Nat.zero_le _⟩ ok36 h
            · have h := h.2 hb35
              refine z_aload_n C 0 d_m_show_193 rfl ?_
              refine z_mget C 5 d_m_show_194 (by decide) k_465 rfl rfl ?_
              refine z_aload_n C 0 d_m_show_197 rfl ?_
              refine z_dup C d_m_show_198 rfl ?_
              refine z_mget C 1 d_m_show_199 (by decide) k_461 rfl rfl ?_
              refine z_dup_x1 C d_m_show_202 rfl rfl ?_
              refine z_iconst C d_m_show_203 ?_
              refine z_iadd C d_m_show_204 ?_
              refine z_mput_length C d_m_show_205 k_461 ?_
              refine z_aload_n C 0 d_m_show_208 rfl ?_
              refine z_mget C 7 d_m_show_209 (by decide) k_467 rfl rfl ?_
              refine z_iload C 1 d_m_show_212 rfl ?_
              obtain ⟨hc37, h⟩ := h
              refine z_ialdN C (9000) d_m_show_214 (Or.inr ⟨by decide, by decide⟩) (by decide) hc37 ?_
              refine z_bipush C d_m_show_215 (by decide) ?_
              obtain ⟨ok38, h⟩ := h
              have hj : ∀ s40 : Int, s40 = (if 10 ≤ ((mS σ32 45 1 ((σ32 45 1) + 1)) 51 v5_30) then ((97 + ((mS σ32 45 1 ((σ32 45 1) + 1)) 51 v5_30)) - 10) else (48 + ((mS σ32 45 1 ((σ32 45 1) + 1)) 51 v5_30))) → Z E G 8 0 0 Q (mS σ32 45 1 ((σ32 45 1) + 1)) 246 [(0, .ref (zA G 45)), (5, .int (iI v5_30))] [.int (iI s40), .int (iI (σ32 45 1)), .ref (zA G 49)] := by
                intro s40 e41
                have h := h s40 e41
                obtain ⟨hc42, h⟩ := h
                refine z_iastN C (2100) d_m_show_246 (Or.inr ⟨by decide, by decide⟩) (by decide) hc42 ?_
                refine z_iinc C 1 [(5, .int (iI (v5_30 + (-1)))), (0, .ref (zA G 45))] d_m_show_247 rfl (by decide) rfl ?_
                refine z_goto C d_m_show_250 ?_
                obtain ⟨ok43, h⟩ := h
                refine z_sub [(0, .ref (zA G 45)), (5, .int (iI (v5_30 + (-1))))] [1, 0] rfl ?_
                exact Hagain34 _ _ h ok43
              clear h
              refine z_icmp_ge C d_m_show_217 ok38 (okI_lit rfl) (fun hb39 => ?_) (fun hb39 => ?_)
              · refine z_bipush C d_m_show_233 (by decide) ?_
                refine z_aload_n C 0 d_m_show_235 rfl ?_
                refine z_mget C 7 d_m_show_236 (by decide) k_467 rfl rfl ?_
                refine z_iload C 1 d_m_show_239 rfl ?_
                refine z_ialdN C (9000) d_m_show_241 (Or.inr ⟨by decide, by decide⟩) (by decide) hc37 ?_
                refine z_iadd C d_m_show_242 ?_
                refine z_bipush C d_m_show_243 (by decide) ?_
                refine z_isub C d_m_show_245 ?_
                exact hj _ (if_pos hb39).symm
              · refine z_bipush C d_m_show_220 (by decide) ?_
                refine z_aload_n C 0 d_m_show_222 rfl ?_
                refine z_mget C 7 d_m_show_223 (by decide) k_467 rfl rfl ?_
                refine z_iload C 1 d_m_show_226 rfl ?_
                refine z_ialdN C (9000) d_m_show_228 (Or.inr ⟨by decide, by decide⟩) (by decide) hc37 ?_
                refine z_iadd C d_m_show_229 ?_
                refine z_goto C d_m_show_230 ?_
                exact hj _ (if_neg (Int.not_le.mpr hb39)).symm
          · intro J27 HJ27 h
            refine z_if_ge C d_m_show_161 ok25 (fun hb44 => ?_) (fun hb44 => ?_)
            · have h := h.1 hb44
              refine z_sub [(0, .ref (zA G 45)), (4, .int (iI v4_20))] [0, 2] rfl ?_
              exact HJ27 _ h
            · have h := h.2 hb44
              refine z_aload_n C 0 d_m_show_164 rfl ?_
              refine z_mget C 5 d_m_show_165 (by decide) k_465 rfl rfl ?_
              refine z_aload_n C 0 d_m_show_168 rfl ?_
              refine z_dup C d_m_show_169 rfl ?_
              refine z_mget C 1 d_m_show_170 (by decide) k_461 rfl rfl ?_
              refine z_dup_x1 C d_m_show_173 rfl rfl ?_
              refine z_iconst C d_m_show_174 ?_
              refine z_iadd C d_m_show_175 ?_
              refine z_mput_length C d_m_show_176 k_461 ?_
              refine z_bipush C d_m_show_179 (by decide) ?_
              obtain ⟨hc45, h⟩ := h
              refine z_iastN C (2100) d_m_show_181 (Or.inr ⟨by decide, by decide⟩) (by decide) hc45 ?_
              refine z_sub [(0, .ref (zA G 45)), (4, .int (iI v4_20))] [0, 2] rfl ?_
              exact HJ27 _ h
        · intro J23 HJ23 h
          refine z_if_ne C d_m_show_136 ok17 (fun hb46 => ?_) (fun hb46 => ?_)
          · have h := h.1 hb46
            refine z_sub [(0, .ref (zA G 45)), (1, .int (iI p0)), (4, .int (iI v4_14))] [0, 1, 4] rfl ?_
            exact HJ23 _ _ h ok17
          · have h := h.2 hb46
            refine z_aload_n C 0 d_m_show_139 rfl ?_
            refine z_mget C 7 d_m_show_140 (by decide) k_467 rfl rfl ?_
            refine z_iload C 4 d_m_show_143 rfl ?_
            refine z_iinc C 4 [(4, .int (iI (v4_14 + 1))), (0, .ref (zA G 45)), (1, .int (iI p0)), (2, .int (iI p1)), (3, .int (iI v3_13))] d_m_show_145 rfl (by decide) rfl ?_
            refine z_iconst C d_m_show_148 ?_
            obtain ⟨hc47, h⟩ := h
            refine z_iastN C (9000) d_m_show_149 (Or.inr ⟨by decide, by decide⟩) (by decide) hc47 ?_
            obtain ⟨ok48, h⟩ := h
            refine z_sub [(0, .ref (zA G 45)), (1, .int (iI p0)), (4, .int (iI (v4_14 + 1)))] [1, 2, 0] rfl ?_
            exact HJ23 _ _ h ok48
      · have h := h.2 hb19
        refine z_lconst C d_m_show_54 ?_
        refine z_lstore C [(5, .long (lL 0)), (0, .ref (zA G 45)), (1, .int (iI p0)), (2, .int (iI p1)), (3, .int (iI v3_13)), (4, .int (iI v4_14))] d_m_show_55 (by decide) rfl ?_
        refine z_iload_n C 4 d_m_show_57 rfl ?_
        refine z_iconst C d_m_show_58 ?_
        refine z_isub C d_m_show_59 ?_
        refine z_namei (fun v7_49 e50 => ?_)
        have h := h v7_49 e50
        refine z_istore C [(7, .int (iI v7_49)), (5, .long (lL 0)), (0, .ref (zA G 45)), (1, .int (iI p0)), (2, .int (iI p1)), (3, .int (iI v3_13)), (4, .int (iI v4_14))] d_m_show_60 (by decide) rfl ?_
        obtain ⟨ok53, h⟩ := h
        refine z_sub [(0, .ref (zA G 45)), (1, .int (iI p0)), (2, .int (iI p1)), (3, .int (iI v3_13)), (4, .int (iI v4_14)), (5, .long (lL 0)), (7, .int (iI v7_49))] [2, 3, 4, 5, 6, 1, 0] rfl ?_
        refine (Lo2.walk (P := fun v5_51 v7_52 σ54 => okI v7_52 → Z E G 8 0 0 Q σ54 62 [(0, .ref (zA G 45)), (1, .int (iI p0)), (2, .int (iI p1)), (3, .int (iI v3_13)), (4, .int (iI v4_14)), (5, .long (lL v5_51)), (7, .int (iI v7_52))] []) ?_ h) ok53
        intro v5_51 v7_52 σ54 again56 Hagain56 h ok55
        refine z_iload C 6 d_m_show_62 rfl ?_
        refine z_if_lt C d_m_show_64 ok55 (fun hb57 => ?_) (fun hb57 => ?_)
        · have h := h.1 hb57
          refine z_aload_n C 0 d_m_show_109 rfl ?_
          refine z_mget C 6 d_m_show_110 (by decide) k_466 rfl rfl ?_
          refine z_iload_n C 3 d_m_show_113 rfl ?_
          refine z_callS C [.ref (zA G 50), .int (iI v3_13)] [] 2 d_m_show_114 (c_m_trim (zl E) G h (Or.inr ⟨by decide, by decide⟩) ok16) k_545 k_543 k_544 k_3 (by decide)  (by decide +kernel) rfl rfl (Nat.le_of_ble_eq_true rfl) hroom_m_trim (fun r58 _s62 ok59 hq => ?_) (fun _ _ hx => hx.elim)
          obtain ⟨hs_, hk_⟩ := hq
          subst hs_
          have h := hk_
          refine z_istore_n C [(3, .int (iI r58)), (0, .ref (zA G 45)), (1, .int (iI p0)), (2, .int (iI p1)), (4, .int (iI v4_14)), (5, .long (lL v5_51)), (7, .int (iI v7_52))] d_m_show_117 (by decide) rfl ?_
          refine z_aload_n C 1 d_m_show_118 rfl ?_
          refine z_mget C 7 d_m_show_119 (by decide) k_467 rfl rfl ?_
          refine z_iload C 4 d_m_show_122 rfl ?_
          refine z_iinc C 4 [(4, .int (iI (v4_14 + 1))), (3, .int (iI r58)), (0, .ref (zA G 45)), (1, .int (iI p0)), (2, .int (iI p1)), (5, .long (lL v5_51)), (7, .int (iI v7_52))] d_m_show_124 rfl (by decide) rfl ?_
          refine z_lload C 5 d_m_show_127 rfl ?_
          refine z_l2i C d_m_show_129 ?_
          obtain ⟨hc60, h⟩ := h
          refine z_iastN C (9000) d_m_show_130 (Or.inr ⟨by decide, by decide⟩) (by decide) hc60 ?_
          refine z_goto C d_m_show_131 ?_
          obtain ⟨ok61, h⟩ := h
          refine z_sub [(0, .ref (zA G 45)), (1, .int (iI p0)), (2, .int (iI p1)), (3, .int (iI r58)), (4, .int (iI (v4_14 + 1)))] [2, 3, 4, 1, 0] rfl ?_
          exact Hagain18 _ _ _ h ok59 ok61
        · have h := h.2 hb57
          refine z_lload C 5 d_m_show_67 rfl ?_
          refine z_bipush C d_m_show_69 (by decide) ?_
          refine z_lshlK C 65536 d_m_show_71 (by decide) ⟨by decide, by decide⟩ ?_
          refine z_aload_n C 0 d_m_show_72 rfl ?_
          refine z_mget C 6 d_m_show_73 (by decide) k_466 rfl rfl ?_
          refine z_iload C 6 d_m_show_76 rfl ?_
          obtain ⟨hc63, h⟩ := h
          refine z_ialdN C (9000) d_m_show_78 (Or.inr ⟨by decide, by decide⟩) (by decide) hc63 ?_
          obtain ⟨ok64, h⟩ := h
          refine z_i2l C d_m_show_79 ok64 ?_
          refine z_lor C d_m_show_80 ?_
          refine z_namel (fun v5_65 e66 => ?_)
          have h := h v5_65 e66
          have ok67 : okL v5_65 := by rw [e66]; exact (okL_or _ _)
          refine z_lstore C [(5, .long (lL v5_65)), (0, .ref (zA G 45)), (1, .int (iI p0)), (2, .int (iI p1)), (3, .int (iI v3_13)), (4, .int (iI v4_14)), (7, .int (iI v7_52))] d_m_show_81 (by decide) rfl ?_
          refine z_aload_n C 1 d_m_show_83 rfl ?_
          refine z_mget C 6 d_m_show_84 (by decide) k_466 rfl rfl ?_
          refine z_iload C 6 d_m_show_87 rfl ?_
          refine z_lload C 0 d_m_show_89 rfl ?_
          refine z_iload_n C 3 d_m_show_91 rfl ?_
          refine z_i2l C d_m_show_92 h_p1 ?_
          obtain ⟨hc68, h⟩ := h
          obtain ⟨hc69, h⟩ := h
          refine z_ldiv C d_m_show_93 hc68 hc69 ?_
          refine z_l2i C d_m_show_94 ?_
          refine z_iastN C (9000) d_m_show_95 (Or.inr ⟨by decide, by decide⟩) (by decide) hc63 ?_
          refine z_lload C 0 d_m_show_96 rfl ?_
          refine z_iload_n C 3 d_m_show_98 rfl ?_
          refine z_i2l C d_m_show_99 h_p1 ?_
          refine z_lrem C d_m_show_100 hc68 hc69 ?_
          refine z_namel (fun v5_70 e71 => ?_)
          have h := h v5_70 e71
          refine z_lstore C [(5, .long (lL v5_70)), (0, .ref (zA G 45)), (1, .int (iI p0)), (2, .int (iI p1)), (3, .int (iI v3_13)), (4, .int (iI v4_14)), (7, .int (iI v7_52))] d_m_show_101 (by decide) rfl ?_
          refine z_iinc C 6 [(7, .int (iI (v7_52 + (-1)))), (5, .long (lL v5_70)), (0, .ref (zA G 45)), (1, .int (iI p0)), (2, .int (iI p1)), (3, .int (iI v3_13)), (4, .int (iI v4_14))] d_m_show_103 rfl (by decide) rfl ?_
          refine z_goto C d_m_show_106 ?_
          obtain ⟨ok72, h⟩ := h
          refine z_sub [(0, .ref (zA G 45)), (1, .int (iI p0)), (2, .int (iI p1)), (3, .int (iI v3_13)), (4, .int (iI v4_14)), (5, .long (lL v5_70)), (7, .int (iI (v7_52 + (-1))))] [2, 3, 4, 5, 6, 1, 0] rfl ?_
          exact Hagain56 _ _ _ h ok72
    · have h := h.2 hb9
      refine z_iconst C d_m_show_35 ?_
      subst hQ
      exact z_ireturn C d_m_show_36.1 hr ⟨Nat.zero_le _, Nat.zero_le _⟩ (okI_lit rfl) h
  · intro J5 HJ5 h
    refine Jq0.walk (Z E G 8 0 0 Q (mS σ 45 0 0) 23 [(0, .ref (zA G 45)), (1, .int (iI p0)), (2, .int (iI p1))] [.ref (zA G 45)]) h ?_ ?_
    · intro h
      refine z_iconst C d_m_show_23 ?_
      refine z_goto C d_m_show_24 ?_
      refine z_sub [(0, .ref (zA G 45)), (1, .int (iI p0)), (2, .int (iI p1))] [0, 1, 2] rfl ?_
      exact HJ5 _ h (okI_lit rfl)
    · intro J73 HJ73 h
      refine z_if_eq C d_m_show_10 (okI_b ok2) (fun hb74 => ?_) (fun hb74 => ?_)
      · have h := h.1 hb74
        refine z_sub [(0, .ref (zA G 45)), (1, .int (iI p0)), (2, .int (iI p1))] [0, 1, 2] rfl ?_
        exact HJ73 h
      · have h := h.2 hb74
        refine z_iload_n C 2 d_m_show_13 rfl ?_
        refine z_iconst C d_m_show_14 ?_
        refine z_bipush C d_m_show_15 (by decide) ?_
        refine z_callS C [.int (iI p1), .int (iI 2), .int (iI 36)] [.ref (zA G 45)] 3 d_m_show_17 (c_m_in (zl E) G h h_p1 (okI_lit rfl) (okI_lit rfl)) k_522 k_520 k_521 k_3 (by decide)  (by decide +kernel) rfl rfl (Nat.le_of_ble_eq_true rfl) hroom_m_in (fun r75 _s78 ok76 hq => ?_) (fun _ _ hx => hx.elim)
        obtain ⟨hs_, hk_⟩ := hq
        subst hs_
        have h := hk_
        refine z_if_ne C d_m_show_20 (okI_b ok76) (fun hb77 => ?_) (fun hb77 => ?_)
        · have h := h.1 hb77
          refine z_iconst C d_m_show_27 ?_
          refine z_sub [(0, .ref (zA G 45)), (1, .int (iI p0)), (2, .int (iI p1))] [0, 1, 2] rfl ?_
          exact HJ5 _ h (okI_lit rfl)
        · have h := h.2 hb77
          refine z_sub [(0, .ref (zA G 45)), (1, .int (iI p0)), (2, .int (iI p1))] [0, 1, 2] rfl ?_
          exact HJ73 h
theorem d_m_letter_0 : DD b_m_letter 0 (.aload_n 0) 1 1 := ⟨by decide +kernel, rfl⟩
theorem d_m_letter_1 : DD b_m_letter 1 (.iconst 0) 1 2 := ⟨by decide +kernel, rfl⟩
theorem d_m_letter_2 : DD b_m_letter 2 (.putfield 49) 3 5 := ⟨by decide +kernel, rfl⟩
theorem d_m_letter_5 : DD b_m_letter 5 (.aload_n 0) 1 6 := ⟨by decide +kernel, rfl⟩
theorem d_m_letter_6 : DD b_m_letter 6 (.iload_n 1) 1 7 := ⟨by decide +kernel, rfl⟩
theorem d_m_letter_7 : DD b_m_letter 7 (.iconst 0) 1 8 := ⟨by decide +kernel, rfl⟩
theorem d_m_letter_8 : DD b_m_letter 8 (.aload_n 0) 1 9 := ⟨by decide +kernel, rfl⟩
theorem d_m_letter_9 : DD b_m_letter 9 (.getfield 97) 3 12 := ⟨by decide +kernel, rfl⟩
theorem d_m_letter_12 : DD b_m_letter 12 (.iconst 1) 1 13 := ⟨by decide +kernel, rfl⟩
theorem d_m_letter_13 : DD b_m_letter 13 .isub 1 14 := ⟨by decide +kernel, rfl⟩
theorem d_m_letter_14 : DD b_m_letter 14 (.invokestatic 68) 3 17 := ⟨by decide +kernel, rfl⟩
theorem d_m_letter_17 : DB b_m_letter 17 (.ifCond .ne 7) 7 20 24 := ⟨by decide +kernel, rfl, rfl⟩
theorem d_m_letter_20 : DD b_m_letter 20 (.iconst 1) 1 21 := ⟨by decide +kernel, rfl⟩
theorem d_m_letter_21 : DB b_m_letter 21 (.goto 4) 4 24 25 := ⟨by decide +kernel, rfl, rfl⟩
theorem d_m_letter_24 : DD b_m_letter 24 (.iconst 0) 1 25 := ⟨by decide +kernel, rfl⟩
theorem d_m_letter_25 : DD b_m_letter 25 (.iconst 1) 1 26 := ⟨by decide +kernel, rfl⟩
theorem d_m_letter_26 : DD b_m_letter 26 (.invokevirtual 79) 3 29 := ⟨by decide +kernel, rfl⟩
theorem d_m_letter_29 : DB b_m_letter 29 (.ifCond .eq 7) 7 32 36 := ⟨by decide +kernel, rfl, rfl⟩
theorem d_m_letter_32 : DD b_m_letter 32 (.iconst 0) 1 33 := ⟨by decide +kernel, rfl⟩
theorem d_m_letter_33 : DB b_m_letter 33 (.goto 9) 9 36 42 := ⟨by decide +kernel, rfl, rfl⟩
theorem d_m_letter_36 : DD b_m_letter 36 (.aload_n 0) 1 37 := ⟨by decide +kernel, rfl⟩
theorem d_m_letter_37 : DD b_m_letter 37 (.getfield 19) 3 40 := ⟨by decide +kernel, rfl⟩
theorem d_m_letter_40 : DD b_m_letter 40 (.iload_n 1) 1 41 := ⟨by decide +kernel, rfl⟩
theorem d_m_letter_41 : DD b_m_letter 41 .iaload 1 42 := ⟨by decide +kernel, rfl⟩
theorem d_m_letter_42 : DD b_m_letter 42 .ireturn 1 43 := ⟨by decide +kernel, rfl⟩
set_option maxRecDepth 20000 in
set_option maxHeartbeats 4000000 in
theorem c_m_letter (l : Launch) (G : ZG) {p0 : Int} {σ : Mem} {K : Int → Mem → Prop} (h : wp_m_letter p0 σ K) (h_p0 : okI p0) : Ct l G y_m_letter (.code y_m_letter b_m_letter 2 (some .int)) { frames := 1, cells := 0, slots := 0, locals := 22 } 0 0 1 [.ref (zA G 45), .int (iI p0)] σ K (fun _ _ => False) := by
  unfold wp_m_letter at h
  refine Ct.ofZ [(0, .ref (zA G 45)), (1, .int (iI p0))] "LimbDeskModel" (by decide) rfl (Nat.le_of_ble_eq_true rfl) rfl ?_
  intro E hR hlE C hr hX
  subst hlE
  have hroom_m_fails : 0 + 1 ≤ (zR E).frames ∧ 8 + (3 + 11) + 0 ≤ (zR E).locals ∧ 0 + 0 ≤ (zR E).cells ∧ 0 + 0 ≤ (zR E).slots := by rw [hR]; decide
  have hroom_m_in : 0 + 1 ≤ (zR E).frames ∧ 8 + (3 + 11) + 0 ≤ (zR E).locals ∧ 0 + 0 ≤ (zR E).cells ∧ 0 + 0 ≤ (zR E).slots := by rw [hR]; decide
  clear hR
  obtain ⟨Q, hQ⟩ : ∃ Q, Q = MQX G (zb E) 1 K (fun _ _ => False) (zs E) 0 0 0 0 := ⟨_, rfl⟩
  show Z E G 2 0 0 (MQX G (zb E) 1 K (fun _ _ => False) (zs E) 0 0 0 0) σ 0 [(0, .ref (zA G 45)), (1, .int (iI p0))] []
  rw [← hQ]
  refine z_aload_n C 0 d_m_letter_0 rfl ?_
  refine z_iconst C d_m_letter_1 ?_
  refine z_mput_err C d_m_letter_2 k_460 ?_
  refine z_aload_n C 0 d_m_letter_5 rfl ?_
  refine z_iload_n C 1 d_m_letter_6 rfl ?_
  refine z_iconst C d_m_letter_7 ?_
  refine z_aload_n C 0 d_m_letter_8 rfl ?_
  refine z_mget C 1 d_m_letter_9 (by decide) k_461 rfl rfl ?_
  refine z_iconst C d_m_letter_12 ?_
  refine z_isub C d_m_letter_13 ?_
  obtain ⟨ok1, h⟩ := h
  refine z_callS C [.int (iI p0), .int (iI 0), .int (iI (((mS σ 45 0 0) 45 1) - 1))] [.ref (zA G 45)] 3 d_m_letter_14 (c_m_in (zl E) G h h_p0 (okI_lit rfl) ok1) k_522 k_520 k_521 k_3 (by decide)  (by decide +kernel) rfl rfl (Nat.le_of_ble_eq_true rfl) hroom_m_in (fun r2 _s17 ok3 hq => ?_) (fun _ _ hx => hx.elim)
  obtain ⟨hs_, hk_⟩ := hq
  subst hs_
  have h := hk_
  have hj : ∀ s5 : Int, s5 = (if r2 ≠ 0 then 0 else 1) → Z E G 2 0 0 Q (mS σ 45 0 0) 25 [(0, .ref (zA G 45)), (1, .int (iI p0))] [.int (iI s5), .ref (zA G 45)] := by
    intro s5 e6
    have h := h s5 e6
    have ok7 : okI s5 := by rw [e6]; split; exact (okI_lit rfl); exact (okI_lit rfl)
    refine z_iconst C d_m_letter_25 ?_
    refine z_callV C "LimbDeskModel" [.int (iI s5), .int (iI 1)] [] 2 d_m_letter_26 (c_m_fails (zl E) G h ok7 (okI_lit rfl)) k_526 k_523 k_525 k_s6 k_3 (by decide) (recv_M C) (by decide +kernel) rfl rfl (Nat.le_of_ble_eq_true rfl) hroom_m_fails (fun r8 σ9 ok10 hq => ?_) (fun _ _ hx => hx.elim)
    have h := hq
    obtain ⟨ha15, h⟩ := h
    have hj : ∀ s13 : Int, s13 = (if r8 = 0 then (σ9 49 p0) else 0) → Z E G 2 0 0 Q σ9 42 [(0, .ref (zA G 45)), (1, .int (iI p0))] [.int (iI s13)] := by
      intro s13 e14
      have h := h s13 e14
      obtain ⟨ok16, h⟩ := h
      subst hQ
      exact z_ireturn C d_m_letter_42.1 hr ⟨Nat.zero_le _, Nat.zero_le _⟩ ok16 h
    clear h
    refine z_if_eq C d_m_letter_29 (okI_b ok10) (fun hb11 => ?_) (fun hb11 => ?_)
    · have h := ha15 hb11
      refine z_aload_n C 0 d_m_letter_36 rfl ?_
      refine z_mget C 5 d_m_letter_37 (by decide) k_465 rfl rfl ?_
      refine z_iload_n C 1 d_m_letter_40 rfl ?_
      obtain ⟨hc12, h⟩ := h
      refine z_ialdN C (2100) d_m_letter_41 (Or.inr ⟨by decide, by decide⟩) (by decide) hc12 ?_
      exact hj _ (if_pos hb11).symm
    · refine z_iconst C d_m_letter_32 ?_
      refine z_goto C d_m_letter_33 ?_
      exact hj _ (if_neg hb11).symm
  clear h
  refine z_if_ne C d_m_letter_17 (okI_b ok3) (fun hb4 => ?_) (fun hb4 => ?_)
  · refine z_iconst C d_m_letter_24 ?_
    exact hj _ (if_pos hb4).symm
  · refine z_iconst C d_m_letter_20 ?_
    refine z_goto C d_m_letter_21 ?_
    exact hj _ (if_neg (not_not_intro hb4)).symm
theorem d_m_work_0 : DD b_m_work 0 (.aload_n 0) 1 1 := ⟨by decide +kernel, rfl⟩
theorem d_m_work_1 : DD b_m_work 1 (.iconst 0) 1 2 := ⟨by decide +kernel, rfl⟩
theorem d_m_work_2 : DD b_m_work 2 (.putfield 49) 3 5 := ⟨by decide +kernel, rfl⟩
theorem d_m_work_5 : DD b_m_work 5 (.aload_n 0) 1 6 := ⟨by decide +kernel, rfl⟩
theorem d_m_work_6 : DD b_m_work 6 (.iload_n 1) 1 7 := ⟨by decide +kernel, rfl⟩
theorem d_m_work_7 : DD b_m_work 7 (.iconst 0) 1 8 := ⟨by decide +kernel, rfl⟩
theorem d_m_work_8 : DD b_m_work 8 (.iconst 2) 1 9 := ⟨by decide +kernel, rfl⟩
theorem d_m_work_9 : DD b_m_work 9 (.invokestatic 68) 3 12 := ⟨by decide +kernel, rfl⟩
theorem d_m_work_12 : DB b_m_work 12 (.ifCond .eq 25) 25 15 37 := ⟨by decide +kernel, rfl, rfl⟩
theorem d_m_work_15 : DD b_m_work 15 (.iload_n 2) 1 16 := ⟨by decide +kernel, rfl⟩
theorem d_m_work_16 : DD b_m_work 16 (.invokestatic 83) 3 19 := ⟨by decide +kernel, rfl⟩
theorem d_m_work_19 : DB b_m_work 19 (.ifCond .eq 18) 18 22 37 := ⟨by decide +kernel, rfl, rfl⟩
theorem d_m_work_22 : DD b_m_work 22 (.iload_n 3) 1 23 := ⟨by decide +kernel, rfl⟩
theorem d_m_work_23 : DD b_m_work 23 (.invokestatic 83) 3 26 := ⟨by decide +kernel, rfl⟩
theorem d_m_work_26 : DB b_m_work 26 (.ifCond .eq 11) 11 29 37 := ⟨by decide +kernel, rfl, rfl⟩
theorem d_m_work_29 : DD b_m_work 29 (.iload 4) 2 31 := ⟨by decide +kernel, rfl⟩
theorem d_m_work_31 : DD b_m_work 31 (.invokestatic 83) 3 34 := ⟨by decide +kernel, rfl⟩
theorem d_m_work_34 : DB b_m_work 34 (.ifCond .ne 7) 7 37 41 := ⟨by decide +kernel, rfl, rfl⟩
theorem d_m_work_37 : DD b_m_work 37 (.iconst 1) 1 38 := ⟨by decide +kernel, rfl⟩
theorem d_m_work_38 : DB b_m_work 38 (.goto 4) 4 41 42 := ⟨by decide +kernel, rfl, rfl⟩
theorem d_m_work_41 : DD b_m_work 41 (.iconst 0) 1 42 := ⟨by decide +kernel, rfl⟩
theorem d_m_work_42 : DD b_m_work 42 (.iconst 1) 1 43 := ⟨by decide +kernel, rfl⟩
theorem d_m_work_43 : DD b_m_work 43 (.invokevirtual 79) 3 46 := ⟨by decide +kernel, rfl⟩
theorem d_m_work_46 : DB b_m_work 46 (.ifCond .eq 5) 5 49 51 := ⟨by decide +kernel, rfl, rfl⟩
theorem d_m_work_49 : DD b_m_work 49 (.iconst 0) 1 50 := ⟨by decide +kernel, rfl⟩
theorem d_m_work_50 : DD b_m_work 50 .ireturn 1 51 := ⟨by decide +kernel, rfl⟩
theorem d_m_work_51 : DD b_m_work 51 (.aload_n 0) 1 52 := ⟨by decide +kernel, rfl⟩
theorem d_m_work_52 : DD b_m_work 52 (.iload_n 3) 1 53 := ⟨by decide +kernel, rfl⟩
theorem d_m_work_53 : DD b_m_work 53 (.aload_n 0) 1 54 := ⟨by decide +kernel, rfl⟩
theorem d_m_work_54 : DD b_m_work 54 (.getfield 22) 3 57 := ⟨by decide +kernel, rfl⟩
theorem d_m_work_57 : DD b_m_work 57 (.invokevirtual 72) 3 60 := ⟨by decide +kernel, rfl⟩
theorem d_m_work_60 : DD b_m_work 60 (.istore 5) 2 62 := ⟨by decide +kernel, rfl⟩
theorem d_m_work_62 : DD b_m_work 62 (.aload_n 0) 1 63 := ⟨by decide +kernel, rfl⟩
theorem d_m_work_63 : DD b_m_work 63 (.iload 4) 2 65 := ⟨by decide +kernel, rfl⟩
theorem d_m_work_65 : DD b_m_work 65 (.aload_n 0) 1 66 := ⟨by decide +kernel, rfl⟩
theorem d_m_work_66 : DD b_m_work 66 (.getfield 25) 3 69 := ⟨by decide +kernel, rfl⟩
theorem d_m_work_69 : DD b_m_work 69 (.invokevirtual 72) 3 72 := ⟨by decide +kernel, rfl⟩
theorem d_m_work_72 : DD b_m_work 72 (.istore 6) 2 74 := ⟨by decide +kernel, rfl⟩
theorem d_m_work_74 : DD b_m_work 74 (.aload_n 0) 1 75 := ⟨by decide +kernel, rfl⟩
theorem d_m_work_75 : DD b_m_work 75 (.getfield 16) 3 78 := ⟨by decide +kernel, rfl⟩
theorem d_m_work_78 : DD b_m_work 78 (.iload_n 3) 1 79 := ⟨by decide +kernel, rfl⟩
theorem d_m_work_79 : DD b_m_work 79 .iaload 1 80 := ⟨by decide +kernel, rfl⟩
theorem d_m_work_80 : DD b_m_work 80 (.istore 7) 2 82 := ⟨by decide +kernel, rfl⟩
theorem d_m_work_82 : DD b_m_work 82 (.iload_n 1) 1 83 := ⟨by decide +kernel, rfl⟩
theorem d_m_work_83 : DD b_m_work 83 (.iconst 1) 1 84 := ⟨by decide +kernel, rfl⟩
theorem d_m_work_84 : DB b_m_work 84 (.if_icmp .ne 14) 14 87 98 := ⟨by decide +kernel, rfl, rfl⟩
theorem d_m_work_87 : DD b_m_work 87 (.aload_n 0) 1 88 := ⟨by decide +kernel, rfl⟩
theorem d_m_work_88 : DD b_m_work 88 (.getfield 16) 3 91 := ⟨by decide +kernel, rfl⟩
theorem d_m_work_91 : DD b_m_work 91 (.iload 4) 2 93 := ⟨by decide +kernel, rfl⟩
theorem d_m_work_93 : DD b_m_work 93 .iaload 1 94 := ⟨by decide +kernel, rfl⟩
theorem d_m_work_94 : DD b_m_work 94 .ineg 1 95 := ⟨by decide +kernel, rfl⟩
theorem d_m_work_95 : DB b_m_work 95 (.goto 10) 10 98 105 := ⟨by decide +kernel, rfl, rfl⟩
theorem d_m_work_98 : DD b_m_work 98 (.aload_n 0) 1 99 := ⟨by decide +kernel, rfl⟩
theorem d_m_work_99 : DD b_m_work 99 (.getfield 16) 3 102 := ⟨by decide +kernel, rfl⟩
theorem d_m_work_102 : DD b_m_work 102 (.iload 4) 2 104 := ⟨by decide +kernel, rfl⟩
theorem d_m_work_104 : DD b_m_work 104 .iaload 1 105 := ⟨by decide +kernel, rfl⟩
theorem d_m_work_105 : DD b_m_work 105 (.istore 8) 2 107 := ⟨by decide +kernel, rfl⟩
theorem d_m_work_107 : DD b_m_work 107 (.iload_n 1) 1 108 := ⟨by decide +kernel, rfl⟩
theorem d_m_work_108 : DD b_m_work 108 (.iconst 2) 1 109 := ⟨by decide +kernel, rfl⟩
theorem d_m_work_109 : DB b_m_work 109 (.if_icmp .ne 42) 42 112 151 := ⟨by decide +kernel, rfl, rfl⟩
theorem d_m_work_112 : DD b_m_work 112 (.aload_n 0) 1 113 := ⟨by decide +kernel, rfl⟩
theorem d_m_work_113 : DD b_m_work 113 (.iload_n 2) 1 114 := ⟨by decide +kernel, rfl⟩
theorem d_m_work_114 : DD b_m_work 114 (.iload 7) 2 116 := ⟨by decide +kernel, rfl⟩
theorem d_m_work_116 : DD b_m_work 116 (.iload 8) 2 118 := ⟨by decide +kernel, rfl⟩
theorem d_m_work_118 : DD b_m_work 118 .imul 1 119 := ⟨by decide +kernel, rfl⟩
theorem d_m_work_119 : DD b_m_work 119 (.aload_n 0) 1 120 := ⟨by decide +kernel, rfl⟩
theorem d_m_work_120 : DD b_m_work 120 (.getfield 28) 3 123 := ⟨by decide +kernel, rfl⟩
theorem d_m_work_123 : DD b_m_work 123 (.aload_n 0) 1 124 := ⟨by decide +kernel, rfl⟩
theorem d_m_work_124 : DD b_m_work 124 (.getfield 22) 3 127 := ⟨by decide +kernel, rfl⟩
theorem d_m_work_127 : DD b_m_work 127 (.iload 5) 2 129 := ⟨by decide +kernel, rfl⟩
theorem d_m_work_129 : DD b_m_work 129 (.aload_n 0) 1 130 := ⟨by decide +kernel, rfl⟩
theorem d_m_work_130 : DD b_m_work 130 (.getfield 25) 3 133 := ⟨by decide +kernel, rfl⟩
theorem d_m_work_133 : DD b_m_work 133 (.iload 6) 2 135 := ⟨by decide +kernel, rfl⟩
theorem d_m_work_135 : DD b_m_work 135 (.aload_n 0) 1 136 := ⟨by decide +kernel, rfl⟩
theorem d_m_work_136 : DD b_m_work 136 (.getfield 28) 3 139 := ⟨by decide +kernel, rfl⟩
theorem d_m_work_139 : DD b_m_work 139 (.invokestatic 107) 3 142 := ⟨by decide +kernel, rfl⟩
theorem d_m_work_142 : DD b_m_work 142 (.iconst 2) 1 143 := ⟨by decide +kernel, rfl⟩
theorem d_m_work_143 : DD b_m_work 143 (.invokevirtual 91) 3 146 := ⟨by decide +kernel, rfl⟩
theorem d_m_work_146 : DD b_m_work 146 (.istore 9) 2 148 := ⟨by decide +kernel, rfl⟩
theorem d_m_work_148 : DB b_m_work 148 (.goto 153) 153 151 301 := ⟨by decide +kernel, rfl, rfl⟩
theorem d_m_work_151 : DD b_m_work 151 (.iload 7) 2 153 := ⟨by decide +kernel, rfl⟩
theorem d_m_work_153 : DD b_m_work 153 (.iload 8) 2 155 := ⟨by decide +kernel, rfl⟩
theorem d_m_work_155 : DB b_m_work 155 (.if_icmp .eq 13) 13 158 168 := ⟨by decide +kernel, rfl, rfl⟩
theorem d_m_work_158 : DD b_m_work 158 (.iload 8) 2 160 := ⟨by decide +kernel, rfl⟩
theorem d_m_work_160 : DB b_m_work 160 (.ifCond .eq 8) 8 163 168 := ⟨by decide +kernel, rfl, rfl⟩
theorem d_m_work_163 : DD b_m_work 163 (.iload 7) 2 165 := ⟨by decide +kernel, rfl⟩
theorem d_m_work_165 : DB b_m_work 165 (.ifCond .ne 49) 49 168 214 := ⟨by decide +kernel, rfl, rfl⟩
theorem d_m_work_168 : DD b_m_work 168 (.aload_n 0) 1 169 := ⟨by decide +kernel, rfl⟩
theorem d_m_work_169 : DD b_m_work 169 (.iload_n 2) 1 170 := ⟨by decide +kernel, rfl⟩
theorem d_m_work_170 : DD b_m_work 170 (.iload 7) 2 172 := ⟨by decide +kernel, rfl⟩
theorem d_m_work_172 : DB b_m_work 172 (.ifCond .eq 8) 8 175 180 := ⟨by decide +kernel, rfl, rfl⟩
theorem d_m_work_175 : DD b_m_work 175 (.iload 7) 2 177 := ⟨by decide +kernel, rfl⟩
theorem d_m_work_177 : DB b_m_work 177 (.goto 5) 5 180 182 := ⟨by decide +kernel, rfl, rfl⟩
theorem d_m_work_180 : DD b_m_work 180 (.iload 8) 2 182 := ⟨by decide +kernel, rfl⟩
theorem d_m_work_182 : DD b_m_work 182 (.aload_n 0) 1 183 := ⟨by decide +kernel, rfl⟩
theorem d_m_work_183 : DD b_m_work 183 (.getfield 28) 3 186 := ⟨by decide +kernel, rfl⟩
theorem d_m_work_186 : DD b_m_work 186 (.aload_n 0) 1 187 := ⟨by decide +kernel, rfl⟩
theorem d_m_work_187 : DD b_m_work 187 (.getfield 22) 3 190 := ⟨by decide +kernel, rfl⟩
theorem d_m_work_190 : DD b_m_work 190 (.iload 5) 2 192 := ⟨by decide +kernel, rfl⟩
theorem d_m_work_192 : DD b_m_work 192 (.aload_n 0) 1 193 := ⟨by decide +kernel, rfl⟩
theorem d_m_work_193 : DD b_m_work 193 (.getfield 25) 3 196 := ⟨by decide +kernel, rfl⟩
theorem d_m_work_196 : DD b_m_work 196 (.iload 6) 2 198 := ⟨by decide +kernel, rfl⟩
theorem d_m_work_198 : DD b_m_work 198 (.aload_n 0) 1 199 := ⟨by decide +kernel, rfl⟩
theorem d_m_work_199 : DD b_m_work 199 (.getfield 28) 3 202 := ⟨by decide +kernel, rfl⟩
theorem d_m_work_202 : DD b_m_work 202 (.invokestatic 111) 3 205 := ⟨by decide +kernel, rfl⟩
theorem d_m_work_205 : DD b_m_work 205 (.iconst 2) 1 206 := ⟨by decide +kernel, rfl⟩
theorem d_m_work_206 : DD b_m_work 206 (.invokevirtual 91) 3 209 := ⟨by decide +kernel, rfl⟩
theorem d_m_work_209 : DD b_m_work 209 (.istore 9) 2 211 := ⟨by decide +kernel, rfl⟩
theorem d_m_work_211 : DB b_m_work 211 (.goto 90) 90 214 301 := ⟨by decide +kernel, rfl, rfl⟩
theorem d_m_work_214 : DD b_m_work 214 (.aload_n 0) 1 215 := ⟨by decide +kernel, rfl⟩
theorem d_m_work_215 : DD b_m_work 215 (.getfield 22) 3 218 := ⟨by decide +kernel, rfl⟩
theorem d_m_work_218 : DD b_m_work 218 (.iload 5) 2 220 := ⟨by decide +kernel, rfl⟩
theorem d_m_work_220 : DD b_m_work 220 (.aload_n 0) 1 221 := ⟨by decide +kernel, rfl⟩
theorem d_m_work_221 : DD b_m_work 221 (.getfield 25) 3 224 := ⟨by decide +kernel, rfl⟩
theorem d_m_work_224 : DD b_m_work 224 (.iload 6) 2 226 := ⟨by decide +kernel, rfl⟩
theorem d_m_work_226 : DD b_m_work 226 (.invokestatic 60) 3 229 := ⟨by decide +kernel, rfl⟩
theorem d_m_work_229 : DB b_m_work 229 (.ifCond .lt 39) 39 232 268 := ⟨by decide +kernel, rfl, rfl⟩
theorem d_m_work_232 : DD b_m_work 232 (.aload_n 0) 1 233 := ⟨by decide +kernel, rfl⟩
theorem d_m_work_233 : DD b_m_work 233 (.iload_n 2) 1 234 := ⟨by decide +kernel, rfl⟩
theorem d_m_work_234 : DD b_m_work 234 (.iload 7) 2 236 := ⟨by decide +kernel, rfl⟩
theorem d_m_work_236 : DD b_m_work 236 (.aload_n 0) 1 237 := ⟨by decide +kernel, rfl⟩
theorem d_m_work_237 : DD b_m_work 237 (.getfield 28) 3 240 := ⟨by decide +kernel, rfl⟩
theorem d_m_work_240 : DD b_m_work 240 (.aload_n 0) 1 241 := ⟨by decide +kernel, rfl⟩
theorem d_m_work_241 : DD b_m_work 241 (.getfield 22) 3 244 := ⟨by decide +kernel, rfl⟩
theorem d_m_work_244 : DD b_m_work 244 (.iload 5) 2 246 := ⟨by decide +kernel, rfl⟩
theorem d_m_work_246 : DD b_m_work 246 (.aload_n 0) 1 247 := ⟨by decide +kernel, rfl⟩
theorem d_m_work_247 : DD b_m_work 247 (.getfield 25) 3 250 := ⟨by decide +kernel, rfl⟩
theorem d_m_work_250 : DD b_m_work 250 (.iload 6) 2 252 := ⟨by decide +kernel, rfl⟩
theorem d_m_work_252 : DD b_m_work 252 (.aload_n 0) 1 253 := ⟨by decide +kernel, rfl⟩
theorem d_m_work_253 : DD b_m_work 253 (.getfield 28) 3 256 := ⟨by decide +kernel, rfl⟩
theorem d_m_work_256 : DD b_m_work 256 (.invokestatic 114) 3 259 := ⟨by decide +kernel, rfl⟩
theorem d_m_work_259 : DD b_m_work 259 (.iconst 2) 1 260 := ⟨by decide +kernel, rfl⟩
theorem d_m_work_260 : DD b_m_work 260 (.invokevirtual 91) 3 263 := ⟨by decide +kernel, rfl⟩
theorem d_m_work_263 : DD b_m_work 263 (.istore 9) 2 265 := ⟨by decide +kernel, rfl⟩
theorem d_m_work_265 : DB b_m_work 265 (.goto 36) 36 268 301 := ⟨by decide +kernel, rfl, rfl⟩
theorem d_m_work_268 : DD b_m_work 268 (.aload_n 0) 1 269 := ⟨by decide +kernel, rfl⟩
theorem d_m_work_269 : DD b_m_work 269 (.iload_n 2) 1 270 := ⟨by decide +kernel, rfl⟩
theorem d_m_work_270 : DD b_m_work 270 (.iload 8) 2 272 := ⟨by decide +kernel, rfl⟩
theorem d_m_work_272 : DD b_m_work 272 (.aload_n 0) 1 273 := ⟨by decide +kernel, rfl⟩
theorem d_m_work_273 : DD b_m_work 273 (.getfield 28) 3 276 := ⟨by decide +kernel, rfl⟩
theorem d_m_work_276 : DD b_m_work 276 (.aload_n 0) 1 277 := ⟨by decide +kernel, rfl⟩
theorem d_m_work_277 : DD b_m_work 277 (.getfield 25) 3 280 := ⟨by decide +kernel, rfl⟩
theorem d_m_work_280 : DD b_m_work 280 (.iload 6) 2 282 := ⟨by decide +kernel, rfl⟩
theorem d_m_work_282 : DD b_m_work 282 (.aload_n 0) 1 283 := ⟨by decide +kernel, rfl⟩
theorem d_m_work_283 : DD b_m_work 283 (.getfield 22) 3 286 := ⟨by decide +kernel, rfl⟩
theorem d_m_work_286 : DD b_m_work 286 (.iload 5) 2 288 := ⟨by decide +kernel, rfl⟩
theorem d_m_work_288 : DD b_m_work 288 (.aload_n 0) 1 289 := ⟨by decide +kernel, rfl⟩
theorem d_m_work_289 : DD b_m_work 289 (.getfield 28) 3 292 := ⟨by decide +kernel, rfl⟩
theorem d_m_work_292 : DD b_m_work 292 (.invokestatic 114) 3 295 := ⟨by decide +kernel, rfl⟩
theorem d_m_work_295 : DD b_m_work 295 (.iconst 2) 1 296 := ⟨by decide +kernel, rfl⟩
theorem d_m_work_296 : DD b_m_work 296 (.invokevirtual 91) 3 299 := ⟨by decide +kernel, rfl⟩
theorem d_m_work_299 : DD b_m_work 299 (.istore 9) 2 301 := ⟨by decide +kernel, rfl⟩
theorem d_m_work_301 : DD b_m_work 301 (.iload 9) 2 303 := ⟨by decide +kernel, rfl⟩
theorem d_m_work_303 : DB b_m_work 303 (.ifCond .eq 12) 12 306 315 := ⟨by decide +kernel, rfl, rfl⟩
theorem d_m_work_306 : DD b_m_work 306 (.aload_n 0) 1 307 := ⟨by decide +kernel, rfl⟩
theorem d_m_work_307 : DD b_m_work 307 (.getfield 16) 3 310 := ⟨by decide +kernel, rfl⟩
theorem d_m_work_310 : DD b_m_work 310 (.iload_n 2) 1 311 := ⟨by decide +kernel, rfl⟩
theorem d_m_work_311 : DD b_m_work 311 .iaload 1 312 := ⟨by decide +kernel, rfl⟩
theorem d_m_work_312 : DB b_m_work 312 (.goto 4) 4 315 316 := ⟨by decide +kernel, rfl, rfl⟩
theorem d_m_work_315 : DD b_m_work 315 (.iconst 0) 1 316 := ⟨by decide +kernel, rfl⟩
theorem d_m_work_316 : DD b_m_work 316 .ireturn 1 317 := ⟨by decide +kernel, rfl⟩
set_option maxRecDepth 20000 in
set_option maxHeartbeats 4000000 in
theorem c_m_work (l : Launch) (G : ZG) {p0 p1 p2 p3 : Int} {σ : Mem} {K : Int → Mem → Prop} (h : wp_m_work p0 p1 p2 p3 σ K) (h_p0 : okI p0) (h_p1 : okI p1) (h_p2 : okI p2) (h_p3 : okI p3) : Ct l G y_m_work (.code y_m_work b_m_work 10 (some .int)) { frames := 2, cells := 0, slots := 0, locals := 50 } 0 0 1 [.ref (zA G 45), .int (iI p0), .int (iI p1), .int (iI p2), .int (iI p3)] σ K (fun _ _ => False) := by
  unfold wp_m_work at h
  refine Ct.ofZ [(0, .ref (zA G 45)), (1, .int (iI p0)), (2, .int (iI p1)), (3, .int (iI p2)), (4, .int (iI p3))] "LimbDeskModel" (by decide) rfl (Nat.le_of_ble_eq_true rfl) rfl ?_
  intro E hR hlE C hr hX
  subst hlE
  have hroom_m_compared : 0 + 1 ≤ (zR E).frames ∧ 8 + (5 + 11) + 0 ≤ (zR E).locals ∧ 0 + 0 ≤ (zR E).cells ∧ 0 + 0 ≤ (zR E).slots := by rw [hR]; decide
  have hroom_m_fails : 0 + 1 ≤ (zR E).frames ∧ 8 + (3 + 11) + 0 ≤ (zR E).locals ∧ 0 + 0 ≤ (zR E).cells ∧ 0 + 0 ≤ (zR E).slots := by rw [hR]; decide
  have hroom_m_in : 0 + 1 ≤ (zR E).frames ∧ 8 + (3 + 11) + 0 ≤ (zR E).locals ∧ 0 + 0 ≤ (zR E).cells ∧ 0 + 0 ≤ (zR E).slots := by rw [hR]; decide
  have hroom_m_isRegister : 1 + 1 ≤ (zR E).frames ∧ 8 + (1 + 11) + 22 ≤ (zR E).locals ∧ 0 + 0 ≤ (zR E).cells ∧ 0 + 0 ≤ (zR E).slots := by rw [hR]; decide
  have hroom_m_keep : 1 + 1 ≤ (zR E).frames ∧ 8 + (8 + 11) + 23 ≤ (zR E).locals ∧ 0 + 0 ≤ (zR E).cells ∧ 0 + 0 ≤ (zR E).slots := by rw [hR]; decide
  have hroom_m_less : 1 + 1 ≤ (zR E).frames ∧ 8 + (7 + 11) + 22 ≤ (zR E).locals ∧ 0 + 0 ≤ (zR E).cells ∧ 0 + 0 ≤ (zR E).slots := by rw [hR]; decide
  have hroom_m_load : 0 + 1 ≤ (zR E).frames ∧ 8 + (4 + 11) + 0 ≤ (zR E).locals ∧ 0 + 0 ≤ (zR E).cells ∧ 0 + 0 ≤ (zR E).slots := by rw [hR]; decide
  have hroom_m_plus : 1 + 1 ≤ (zR E).frames ∧ 8 + (8 + 11) + 22 ≤ (zR E).locals ∧ 0 + 0 ≤ (zR E).cells ∧ 0 + 0 ≤ (zR E).slots := by rw [hR]; decide
  have hroom_m_times : 1 + 1 ≤ (zR E).frames ∧ 8 + (9 + 11) + 22 ≤ (zR E).locals ∧ 0 + 0 ≤ (zR E).cells ∧ 0 + 0 ≤ (zR E).slots := by rw [hR]; decide
  clear hR
  obtain ⟨Q, hQ⟩ : ∃ Q, Q = MQX G (zb E) 1 K (fun _ _ => False) (zs E) 0 0 0 0 := ⟨_, rfl⟩
  show Z E G 10 0 0 (MQX G (zb E) 1 K (fun _ _ => False) (zs E) 0 0 0 0) σ 0 [(0, .ref (zA G 45)), (1, .int (iI p0)), (2, .int (iI p1)), (3, .int (iI p2)), (4, .int (iI p3))] []
  rw [← hQ]
  refine z_aload_n C 0 d_m_work_0 rfl ?_
  refine z_iconst C d_m_work_1 ?_
  refine z_mput_err C d_m_work_2 k_460 ?_
  refine z_aload_n C 0 d_m_work_5 rfl ?_
  refine z_iload_n C 1 d_m_work_6 rfl ?_
  refine z_iconst C d_m_work_7 ?_
  refine z_iconst C d_m_work_8 ?_
  refine z_callS C [.int (iI p0), .int (iI 0), .int (iI 2)] [.ref (zA G 45)] 3 d_m_work_9 (c_m_in (zl E) G h h_p0 (okI_lit rfl) (okI_lit rfl)) k_522 k_520 k_521 k_3 (by decide)  (by decide +kernel) rfl rfl (Nat.le_of_ble_eq_true rfl) hroom_m_in (fun r1 _s90 ok2 hq => ?_) (fun _ _ hx => hx.elim)
  obtain ⟨hs_, hk_⟩ := hq
  subst hs_
  have h := hk_
  refine Jq1.walk (fun s3 => okI s3 → Z E G 10 0 0 Q (mS σ 45 0 0) 42 [(0, .ref (zA G 45)), (1, .int (iI p0)), (2, .int (iI p1)), (3, .int (iI p2)), (4, .int (iI p3))] [.int (iI s3), .ref (zA G 45)]) h ?_ ?_
  · intro s3 h ok4
    refine z_iconst C d_m_work_42 ?_
    refine z_callV C "LimbDeskModel" [.int (iI s3), .int (iI 1)] [] 2 d_m_work_43 (c_m_fails (zl E) G h ok4 (okI_lit rfl)) k_526 k_523 k_525 k_s6 k_3 (by decide) (recv_M C) (by decide +kernel) rfl rfl (Nat.le_of_ble_eq_true rfl) hroom_m_fails (fun r6 σ7 ok8 hq => ?_) (fun _ _ hx => hx.elim)
    have h := hq
    refine z_if_eq C d_m_work_46 (okI_b ok8) (fun hb9 => ?_) (fun hb9 => ?_)
    · have h := h.1 hb9
      refine z_aload_n C 0 d_m_work_51 rfl ?_
      refine z_iload_n C 3 d_m_work_52 rfl ?_
      refine z_aload_n C 0 d_m_work_53 rfl ?_
      refine z_mget C 6 d_m_work_54 (by decide) k_466 rfl rfl ?_
      refine z_callV C "LimbDeskModel" [.int (iI p2), .ref (zA G 50)] [] 2 d_m_work_57 (c_m_load (zl E) G h h_p2 (Or.inr ⟨by decide, by decide⟩)) k_534 k_531 k_533 k_s8 k_3 (by decide) (recv_M C) (by decide +kernel) rfl rfl (Nat.le_of_ble_eq_true rfl) hroom_m_load (fun r10 σ11 ok12 hq => ?_) (fun _ _ hx => hx.elim)
      have h := hq
      refine z_istore C [(5, .int (iI r10)), (0, .ref (zA G 45)), (1, .int (iI p0)), (2, .int (iI p1)), (3, .int (iI p2)), (4, .int (iI p3))] d_m_work_60 (by decide) rfl ?_
      refine z_aload_n C 1 d_m_work_62 rfl ?_
      refine z_iload C 5 d_m_work_63 rfl ?_
      refine z_aload_n C 1 d_m_work_65 rfl ?_
      refine z_mget C 7 d_m_work_66 (by decide) k_467 rfl rfl ?_
      refine z_callV C "LimbDeskModel" [.int (iI p3), .ref (zA G 51)] [] 2 d_m_work_69 (c_m_load (zl E) G h h_p3 (Or.inr ⟨by decide, by decide⟩)) k_534 k_531 k_533 k_s8 k_3 (by decide) (recv_M C) (by decide +kernel) rfl rfl (Nat.le_of_ble_eq_true rfl) hroom_m_load (fun r13 σ14 ok15 hq => ?_) (fun _ _ hx => hx.elim)
      have h := hq
      refine z_istore C [(6, .int (iI r13)), (5, .int (iI r10)), (0, .ref (zA G 45)), (1, .int (iI p0)), (2, .int (iI p1)), (3, .int (iI p2)), (4, .int (iI p3))] d_m_work_72 (by decide) rfl ?_
      refine z_aload_n C 2 d_m_work_74 rfl ?_
      refine z_mget C 4 d_m_work_75 (by decide) k_464 rfl rfl ?_
      refine z_iload_n C 5 d_m_work_78 rfl ?_
      obtain ⟨hc16, h⟩ := h
      refine z_ialdN C (16) d_m_work_79 (Or.inr ⟨by decide, by decide⟩) (by decide) hc16 ?_
      refine z_namei (fun v7_17 e18 => ?_)
      have h := h v7_17 e18
      refine z_istore C [(7, .int (iI v7_17)), (6, .int (iI r13)), (5, .int (iI r10)), (0, .ref (zA G 45)), (1, .int (iI p0)), (2, .int (iI p1)), (3, .int (iI p2)), (4, .int (iI p3))] d_m_work_80 (by decide) rfl ?_
      refine z_iload_n C 4 d_m_work_82 rfl ?_
      refine z_iconst C d_m_work_83 ?_
      obtain ⟨ha24, h⟩ := h
      obtain ⟨ha25, h⟩ := h
      have hj : ∀ s22 : Int, s22 = (if p0 ≠ 1 then (σ14 48 p3) else (-(σ14 48 p3))) → Z E G 10 0 0 Q σ14 105 [(7, .int (iI v7_17)), (6, .int (iI r13)), (5, .int (iI r10)), (0, .ref (zA G 45)), (1, .int (iI p0)), (2, .int (iI p1)), (3, .int (iI p2)), (4, .int (iI p3))] [.int (iI s22)] := by
        intro s22 e23
        have h := h s22 e23
        refine z_istore C [(8, .int (iI s22)), (7, .int (iI v7_17)), (6, .int (iI r13)), (5, .int (iI r10)), (0, .ref (zA G 45)), (1, .int (iI p0)), (2, .int (iI p1)), (3, .int (iI p2)), (4, .int (iI p3))] d_m_work_105 (by decide) rfl ?_
        refine z_iload_n C 5 d_m_work_107 rfl ?_
        refine z_iconst C d_m_work_108 ?_
        refine Jo1.walk (fun v9_26 σ27 => okI v9_26 → Z E G 10 0 0 Q σ27 301 [(0, .ref (zA G 45)), (2, .int (iI p1)), (9, .int (iI v9_26))] []) h ?_ ?_
        · intro v9_26 σ27 h ok28
          refine z_iload C 2 d_m_work_301 rfl ?_
          obtain ⟨ha34, h⟩ := h
          have hj : ∀ s32 : Int, s32 = (if v9_26 = 0 then 0 else (σ27 48 p1)) → Z E G 10 0 0 Q σ27 316 [(0, .ref (zA G 45)), (2, .int (iI p1)), (9, .int (iI v9_26))] [.int (iI s32)] := by
            intro s32 e33
            have h := h s32 e33
            obtain ⟨ok35, h⟩ := h
            subst hQ
            exact z_ireturn C d_m_work_316.1 hr ⟨Nat.zero_le _, Nat.zero_le _⟩ ok35 h
          clear h
          refine z_if_eq C d_m_work_303 ok28 (fun hb30 => ?_) (fun hb30 => ?_)
          · refine z_iconst C d_m_work_315 ?_
            exact hj _ (if_pos hb30).symm
          · have h := ha34 hb30
            refine z_aload_n C 0 d_m_work_306 rfl ?_
            refine z_mget C 4 d_m_work_307 (by decide) k_464 rfl rfl ?_
            refine z_iload_n C 1 d_m_work_310 rfl ?_
            obtain ⟨hc31, h⟩ := h
            refine z_ialdN C (16) d_m_work_311 (Or.inr ⟨by decide, by decide⟩) (by decide) hc31 ?_
            refine z_goto C d_m_work_312 ?_
            exact hj _ (if_neg hb30).symm
        · intro J29 HJ29 h
          refine z_icmp_ne C d_m_work_109 h_p0 (okI_lit rfl) (fun hb36 => ?_) (fun hb36 => ?_)
          · have h := h.1 hb36
            refine z_iload C 1 d_m_work_151 rfl ?_
            refine z_iload C 0 d_m_work_153 rfl ?_
            obtain ⟨ok37, h⟩ := h
            obtain ⟨ok38, h⟩ := h
            refine Jq0.walk (Z E G 10 0 0 Q σ14 168 [(0, .ref (zA G 45)), (2, .int (iI p1)), (5, .int (iI r10)), (6, .int (iI r13)), (7, .int (iI v7_17)), (8, .int (iI s22))] []) h ?_ ?_
            · intro h
              refine z_aload_n C 0 d_m_work_168 rfl ?_
              refine z_iload_n C 1 d_m_work_169 rfl ?_
              refine z_iload C 4 d_m_work_170 rfl ?_
              have hj : ∀ s41 : Int, s41 = (if v7_17 = 0 then s22 else v7_17) → Z E G 10 0 0 Q σ14 182 [(0, .ref (zA G 45)), (2, .int (iI p1)), (5, .int (iI r10)), (6, .int (iI r13)), (7, .int (iI v7_17)), (8, .int (iI s22))] [.int (iI s41), .int (iI p1), .ref (zA G 45)] := by
                intro s41 e42
                have h := h s41 e42
                have ok43 : okI s41 := by rw [e42]; split; exact ok38; exact ok37
                refine z_aload_n C 0 d_m_work_182 rfl ?_
                refine z_mget C 8 d_m_work_183 (by decide) k_468 rfl rfl ?_
                refine z_aload_n C 0 d_m_work_186 rfl ?_
                refine z_mget C 6 d_m_work_187 (by decide) k_466 rfl rfl ?_
                refine z_iload C 2 d_m_work_190 rfl ?_
                refine z_aload_n C 0 d_m_work_192 rfl ?_
                refine z_mget C 7 d_m_work_193 (by decide) k_467 rfl rfl ?_
                refine z_iload C 3 d_m_work_196 rfl ?_
                refine z_aload_n C 0 d_m_work_198 rfl ?_
                refine z_mget C 8 d_m_work_199 (by decide) k_468 rfl rfl ?_
                refine z_callS C [.ref (zA G 50), .int (iI r10), .ref (zA G 51), .int (iI r13), .ref (zA G 52)] [.ref (zA G 52), .int (iI s41), .int (iI p1), .ref (zA G 45)] 5 d_m_work_202 (c_m_plus (zl E) G h (Or.inr ⟨by decide, by decide⟩) ok12 (Or.inr ⟨by decide, by decide⟩) ok15 (Or.inr ⟨by decide, by decide⟩)) k_578 k_576 k_577 k_3 (by decide)  (by decide +kernel) rfl rfl (Nat.le_of_ble_eq_true rfl) hroom_m_plus (fun r44 σ45 ok46 hq => ?_) (fun _ _ hx => hx.elim)
                have h := hq
                refine z_iconst C d_m_work_205 ?_
                refine z_callV C "LimbDeskModel" [.int (iI p1), .int (iI s41), .ref (zA G 52), .int (iI r44), .int (iI 2)] [] 5 d_m_work_206 (c_m_keep (zl E) G h h_p1 ok43 (Or.inr ⟨by decide, by decide⟩) ok46 (okI_lit rfl)) k_542 k_539 k_541 k_s9 k_3 (by decide) (recv_M C) (by decide +kernel) rfl rfl (Nat.le_of_ble_eq_true rfl) hroom_m_keep (fun r47 σ48 ok49 hq => ?_) (fun _ _ hx => hx.elim)
                have h := hq
                refine z_istore C [(9, .int (iI r47)), (0, .ref (zA G 45)), (2, .int (iI p1)), (5, .int (iI r10)), (6, .int (iI r13)), (7, .int (iI v7_17)), (8, .int (iI s22))] d_m_work_209 (by decide) rfl ?_
                refine z_goto C d_m_work_211 ?_
                refine z_sub [(0, .ref (zA G 45)), (2, .int (iI p1)), (9, .int (iI r47))] [1, 2, 0] rfl ?_
                exact HJ29 _ _ h (okI_b ok49)
              clear h
              refine z_if_eq C d_m_work_172 ok37 (fun hb40 => ?_) (fun hb40 => ?_)
              · refine z_iload C 5 d_m_work_180 rfl ?_
                exact hj _ (if_pos hb40).symm
              · refine z_iload C 4 d_m_work_175 rfl ?_
                refine z_goto C d_m_work_177 ?_
                exact hj _ (if_neg hb40).symm
            · intro J39 HJ39 h
              refine z_icmp_eq C d_m_work_155 ok37 ok38 (fun hb50 => ?_) (fun hb50 => ?_)
              · have h := h.1 hb50
                refine z_sub [(0, .ref (zA G 45)), (2, .int (iI p1)), (5, .int (iI r10)), (6, .int (iI r13)), (7, .int (iI v7_17)), (8, .int (iI s22))] [4, 6, 3, 2, 1, 0] rfl ?_
                exact HJ39 h
              · have h := h.2 hb50
                refine z_iload C 0 d_m_work_158 rfl ?_
                refine z_if_eq C d_m_work_160 ok38 (fun hb51 => ?_) (fun hb51 => ?_)
                · have h := h.1 hb51
                  refine z_sub [(0, .ref (zA G 45)), (2, .int (iI p1)), (5, .int (iI r10)), (6, .int (iI r13)), (7, .int (iI v7_17)), (8, .int (iI s22))] [4, 6, 3, 2, 1, 0] rfl ?_
                  exact HJ39 h
                · have h := h.2 hb51
                  refine z_iload C 1 d_m_work_163 rfl ?_
                  refine z_if_ne C d_m_work_165 ok37 (fun hb52 => ?_) (fun hb52 => ?_)
                  · have h := h.1 hb52
                    refine z_aload_n C 4 d_m_work_214 rfl ?_
                    refine z_mget C 6 d_m_work_215 (by decide) k_466 rfl rfl ?_
                    refine z_iload C 3 d_m_work_218 rfl ?_
                    refine z_aload_n C 4 d_m_work_220 rfl ?_
                    refine z_mget C 7 d_m_work_221 (by decide) k_467 rfl rfl ?_
                    refine z_iload C 2 d_m_work_224 rfl ?_
                    refine z_callS C [.ref (zA G 50), .int (iI r10), .ref (zA G 51), .int (iI r13)] [] 4 d_m_work_226 (c_m_compared (zl E) G h (Or.inr ⟨by decide, by decide⟩) ok12 (Or.inr ⟨by decide, by decide⟩) ok15) k_582 k_580 k_581 k_3 (by decide)  (by decide +kernel) rfl rfl (Nat.le_of_ble_eq_true rfl) hroom_m_compared (fun r53 _s68 ok54 hq => ?_) (fun _ _ hx => hx.elim)
                    obtain ⟨hs_, hk_⟩ := hq
                    subst hs_
                    have h := hk_
                    refine z_if_lt C d_m_work_229 ok54 (fun hb55 => ?_) (fun hb55 => ?_)
                    · have h := h.1 hb55
                      refine z_aload_n C 4 d_m_work_268 rfl ?_
                      refine z_iload_n C 6 d_m_work_269 rfl ?_
                      refine z_iload C 0 d_m_work_270 rfl ?_
                      refine z_aload_n C 4 d_m_work_272 rfl ?_
                      refine z_mget C 8 d_m_work_273 (by decide) k_468 rfl rfl ?_
                      refine z_aload_n C 4 d_m_work_276 rfl ?_
                      refine z_mget C 7 d_m_work_277 (by decide) k_467 rfl rfl ?_
                      refine z_iload C 2 d_m_work_280 rfl ?_
                      refine z_aload_n C 4 d_m_work_282 rfl ?_
                      refine z_mget C 6 d_m_work_283 (by decide) k_466 rfl rfl ?_
                      refine z_iload C 3 d_m_work_286 rfl ?_
                      refine z_aload_n C 4 d_m_work_288 rfl ?_
                      refine z_mget C 8 d_m_work_289 (by decide) k_468 rfl rfl ?_
                      refine z_callS C [.ref (zA G 51), .int (iI r13), .ref (zA G 50), .int (iI r10), .ref (zA G 52)] [.ref (zA G 52), .int (iI s22), .int (iI p1), .ref (zA G 45)] 5 d_m_work_292 (c_m_less (zl E) G h (Or.inr ⟨by decide, by decide⟩) ok15 (Or.inr ⟨by decide, by decide⟩) ok12 (Or.inr ⟨by decide, by decide⟩)) k_585 k_583 k_584 k_3 (by decide)  (by decide +kernel) rfl rfl (Nat.le_of_ble_eq_true rfl) hroom_m_less (fun r56 σ57 ok58 hq => ?_) (fun _ _ hx => hx.elim)
                      have h := hq
                      refine z_iconst C d_m_work_295 ?_
                      refine z_callV C "LimbDeskModel" [.int (iI p1), .int (iI s22), .ref (zA G 52), .int (iI r56), .int (iI 2)] [] 5 d_m_work_296 (c_m_keep (zl E) G h h_p1 ok38 (Or.inr ⟨by decide, by decide⟩) ok58 (okI_lit rfl)) k_542 k_539 k_541 k_s9 k_3 (by decide) (recv_M C) (by decide +kernel) rfl rfl (Nat.le_of_ble_eq_true rfl) hroom_m_keep (fun r59 σ60 ok61 hq => ?_) (fun _ _ hx => hx.elim)
                      have h := hq
                      refine z_istore C [(9, .int (iI r59)), (8, .int (iI s22)), (7, .int (iI v7_17)), (6, .int (iI r13)), (5, .int (iI r10)), (0, .ref (zA G 45)), (1, .int (iI p0)), (2, .int (iI p1)), (3, .int (iI p2)), (4, .int (iI p3))] d_m_work_299 (by decide) rfl ?_
                      refine z_sub [(0, .ref (zA G 45)), (2, .int (iI p1)), (9, .int (iI r59))] [5, 7, 0] rfl ?_
                      exact HJ29 _ _ h (okI_b ok61)
                    · have h := h.2 hb55
                      refine z_aload_n C 4 d_m_work_232 rfl ?_
                      refine z_iload_n C 6 d_m_work_233 rfl ?_
                      refine z_iload C 1 d_m_work_234 rfl ?_
                      refine z_aload_n C 4 d_m_work_236 rfl ?_
                      refine z_mget C 8 d_m_work_237 (by decide) k_468 rfl rfl ?_
                      refine z_aload_n C 4 d_m_work_240 rfl ?_
                      refine z_mget C 6 d_m_work_241 (by decide) k_466 rfl rfl ?_
                      refine z_iload C 3 d_m_work_244 rfl ?_
                      refine z_aload_n C 4 d_m_work_246 rfl ?_
                      refine z_mget C 7 d_m_work_247 (by decide) k_467 rfl rfl ?_
                      refine z_iload C 2 d_m_work_250 rfl ?_
                      refine z_aload_n C 4 d_m_work_252 rfl ?_
                      refine z_mget C 8 d_m_work_253 (by decide) k_468 rfl rfl ?_
                      refine z_callS C [.ref (zA G 50), .int (iI r10), .ref (zA G 51), .int (iI r13), .ref (zA G 52)] [.ref (zA G 52), .int (iI v7_17), .int (iI p1), .ref (zA G 45)] 5 d_m_work_256 (c_m_less (zl E) G h (Or.inr ⟨by decide, by decide⟩) ok12 (Or.inr ⟨by decide, by decide⟩) ok15 (Or.inr ⟨by decide, by decide⟩)) k_585 k_583 k_584 k_3 (by decide)  (by decide +kernel) rfl rfl (Nat.le_of_ble_eq_true rfl) hroom_m_less (fun r62 σ63 ok64 hq => ?_) (fun _ _ hx => hx.elim)
                      have h := hq
                      refine z_iconst C d_m_work_259 ?_
                      refine z_callV C "LimbDeskModel" [.int (iI p1), .int (iI v7_17), .ref (zA G 52), .int (iI r62), .int (iI 2)] [] 5 d_m_work_260 (c_m_keep (zl E) G h h_p1 ok37 (Or.inr ⟨by decide, by decide⟩) ok64 (okI_lit rfl)) k_542 k_539 k_541 k_s9 k_3 (by decide) (recv_M C) (by decide +kernel) rfl rfl (Nat.le_of_ble_eq_true rfl) hroom_m_keep (fun r65 σ66 ok67 hq => ?_) (fun _ _ hx => hx.elim)
                      have h := hq
                      refine z_istore C [(9, .int (iI r65)), (8, .int (iI s22)), (7, .int (iI v7_17)), (6, .int (iI r13)), (5, .int (iI r10)), (0, .ref (zA G 45)), (1, .int (iI p0)), (2, .int (iI p1)), (3, .int (iI p2)), (4, .int (iI p3))] d_m_work_263 (by decide) rfl ?_
                      refine z_goto C d_m_work_265 ?_
                      refine z_sub [(0, .ref (zA G 45)), (2, .int (iI p1)), (9, .int (iI r65))] [5, 7, 0] rfl ?_
                      exact HJ29 _ _ h (okI_b ok67)
                  · have h := h.2 hb52
                    refine z_sub [(0, .ref (zA G 45)), (2, .int (iI p1)), (5, .int (iI r10)), (6, .int (iI r13)), (7, .int (iI v7_17)), (8, .int (iI s22))] [4, 6, 3, 2, 1, 0] rfl ?_
                    exact HJ39 h
          · have h := h.2 hb36
            refine z_aload_n C 4 d_m_work_112 rfl ?_
            refine z_iload_n C 6 d_m_work_113 rfl ?_
            refine z_iload C 1 d_m_work_114 rfl ?_
            refine z_iload C 0 d_m_work_116 rfl ?_
            refine z_imul C d_m_work_118 ?_
            refine z_aload_n C 4 d_m_work_119 rfl ?_
            refine z_mget C 8 d_m_work_120 (by decide) k_468 rfl rfl ?_
            refine z_aload_n C 4 d_m_work_123 rfl ?_
            refine z_mget C 6 d_m_work_124 (by decide) k_466 rfl rfl ?_
            refine z_iload C 3 d_m_work_127 rfl ?_
            refine z_aload_n C 4 d_m_work_129 rfl ?_
            refine z_mget C 7 d_m_work_130 (by decide) k_467 rfl rfl ?_
            refine z_iload C 2 d_m_work_133 rfl ?_
            refine z_aload_n C 4 d_m_work_135 rfl ?_
            refine z_mget C 8 d_m_work_136 (by decide) k_468 rfl rfl ?_
            refine z_callS C [.ref (zA G 50), .int (iI r10), .ref (zA G 51), .int (iI r13), .ref (zA G 52)] [.ref (zA G 52), .int (iI (v7_17 * s22)), .int (iI p1), .ref (zA G 45)] 5 d_m_work_139 (c_m_times (zl E) G h (Or.inr ⟨by decide, by decide⟩) ok12 (Or.inr ⟨by decide, by decide⟩) ok15 (Or.inr ⟨by decide, by decide⟩)) k_575 k_573 k_574 k_3 (by decide)  (by decide +kernel) rfl rfl (Nat.le_of_ble_eq_true rfl) hroom_m_times (fun r69 σ70 ok71 hq => ?_) (fun _ _ hx => hx.elim)
            have h := hq
            refine z_iconst C d_m_work_142 ?_
            obtain ⟨ok72, h⟩ := h
            refine z_callV C "LimbDeskModel" [.int (iI p1), .int (iI (v7_17 * s22)), .ref (zA G 52), .int (iI r69), .int (iI 2)] [] 5 d_m_work_143 (c_m_keep (zl E) G h h_p1 ok72 (Or.inr ⟨by decide, by decide⟩) ok71 (okI_lit rfl)) k_542 k_539 k_541 k_s9 k_3 (by decide) (recv_M C) (by decide +kernel) rfl rfl (Nat.le_of_ble_eq_true rfl) hroom_m_keep (fun r73 σ74 ok75 hq => ?_) (fun _ _ hx => hx.elim)
            have h := hq
            refine z_istore C [(9, .int (iI r73)), (8, .int (iI s22)), (7, .int (iI v7_17)), (6, .int (iI r13)), (5, .int (iI r10)), (0, .ref (zA G 45)), (1, .int (iI p0)), (2, .int (iI p1)), (3, .int (iI p2)), (4, .int (iI p3))] d_m_work_146 (by decide) rfl ?_
            refine z_goto C d_m_work_148 ?_
            refine z_sub [(0, .ref (zA G 45)), (2, .int (iI p1)), (9, .int (iI r73))] [5, 7, 0] rfl ?_
            exact HJ29 _ _ h (okI_b ok75)
      clear h
      refine z_icmp_ne C d_m_work_84 h_p0 (okI_lit rfl) (fun hb19 => ?_) (fun hb19 => ?_)
      · have h := ha24 hb19
        refine z_aload_n C 3 d_m_work_98 rfl ?_
        refine z_mget C 4 d_m_work_99 (by decide) k_464 rfl rfl ?_
        refine z_iload C 7 d_m_work_102 rfl ?_
        obtain ⟨hc20, h⟩ := h
        refine z_ialdN C (16) d_m_work_104 (Or.inr ⟨by decide, by decide⟩) (by decide) hc20 ?_
        exact hj _ (if_pos hb19).symm
      · have h := ha25 hb19
        refine z_aload_n C 3 d_m_work_87 rfl ?_
        refine z_mget C 4 d_m_work_88 (by decide) k_464 rfl rfl ?_
        refine z_iload C 7 d_m_work_91 rfl ?_
        obtain ⟨hc21, h⟩ := h
        refine z_ialdN C (16) d_m_work_93 (Or.inr ⟨by decide, by decide⟩) (by decide) hc21 ?_
        refine z_ineg C d_m_work_94 ?_
        refine z_goto C d_m_work_95 ?_
        exact hj _ (if_neg (not_not_intro hb19)).symm
    · have h := h.2 hb9
      refine z_iconst C d_m_work_49 ?_
      subst hQ
      exact z_ireturn C d_m_work_50.1 hr ⟨Nat.zero_le _, Nat.zero_le _⟩ (okI_lit rfl) h
  · intro J5 HJ5 h
    refine Jq0.walk (Z E G 10 0 0 Q (mS σ 45 0 0) 37 [(0, .ref (zA G 45)), (1, .int (iI p0)), (2, .int (iI p1)), (3, .int (iI p2)), (4, .int (iI p3))] [.ref (zA G 45)]) h ?_ ?_
    · intro h
      refine z_iconst C d_m_work_37 ?_
      refine z_goto C d_m_work_38 ?_
      refine z_sub [(0, .ref (zA G 45)), (1, .int (iI p0)), (2, .int (iI p1)), (3, .int (iI p2)), (4, .int (iI p3))] [0, 1, 2, 3, 4] rfl ?_
      exact HJ5 _ h (okI_lit rfl)
    · intro J76 HJ76 h
      refine z_if_eq C d_m_work_12 (okI_b ok2) (fun hb77 => ?_) (fun hb77 => ?_)
      · have h := h.1 hb77
        refine z_sub [(0, .ref (zA G 45)), (1, .int (iI p0)), (2, .int (iI p1)), (3, .int (iI p2)), (4, .int (iI p3))] [0, 1, 2, 3, 4] rfl ?_
        exact HJ76 h
      · have h := h.2 hb77
        refine z_iload_n C 2 d_m_work_15 rfl ?_
        refine z_callS C [.int (iI p1)] [.ref (zA G 45)] 1 d_m_work_16 (c_m_isRegister (zl E) G h h_p1) k_519 k_517 k_518 k_3 (by decide)  (by decide +kernel) rfl rfl (Nat.le_of_ble_eq_true rfl) hroom_m_isRegister (fun r78 _s89 ok79 hq => ?_) (fun _ _ hx => hx.elim)
        obtain ⟨hs_, hk_⟩ := hq
        subst hs_
        have h := hk_
        refine z_if_eq C d_m_work_19 (okI_b ok79) (fun hb80 => ?_) (fun hb80 => ?_)
        · have h := h.1 hb80
          refine z_sub [(0, .ref (zA G 45)), (1, .int (iI p0)), (2, .int (iI p1)), (3, .int (iI p2)), (4, .int (iI p3))] [0, 1, 2, 3, 4] rfl ?_
          exact HJ76 h
        · have h := h.2 hb80
          refine z_iload_n C 3 d_m_work_22 rfl ?_
          refine z_callS C [.int (iI p2)] [.ref (zA G 45)] 1 d_m_work_23 (c_m_isRegister (zl E) G h h_p2) k_519 k_517 k_518 k_3 (by decide)  (by decide +kernel) rfl rfl (Nat.le_of_ble_eq_true rfl) hroom_m_isRegister (fun r81 _s88 ok82 hq => ?_) (fun _ _ hx => hx.elim)
          obtain ⟨hs_, hk_⟩ := hq
          subst hs_
          have h := hk_
          refine z_if_eq C d_m_work_26 (okI_b ok82) (fun hb83 => ?_) (fun hb83 => ?_)
          · have h := h.1 hb83
            refine z_sub [(0, .ref (zA G 45)), (1, .int (iI p0)), (2, .int (iI p1)), (3, .int (iI p2)), (4, .int (iI p3))] [0, 1, 2, 3, 4] rfl ?_
            exact HJ76 h
          · have h := h.2 hb83
            refine z_iload C 4 d_m_work_29 rfl ?_
            refine z_callS C [.int (iI p3)] [.ref (zA G 45)] 1 d_m_work_31 (c_m_isRegister (zl E) G h h_p3) k_519 k_517 k_518 k_3 (by decide)  (by decide +kernel) rfl rfl (Nat.le_of_ble_eq_true rfl) hroom_m_isRegister (fun r84 _s87 ok85 hq => ?_) (fun _ _ hx => hx.elim)
            obtain ⟨hs_, hk_⟩ := hq
            subst hs_
            have h := hk_
            refine z_if_ne C d_m_work_34 (okI_b ok85) (fun hb86 => ?_) (fun hb86 => ?_)
            · have h := h.1 hb86
              refine z_iconst C d_m_work_41 ?_
              refine z_sub [(0, .ref (zA G 45)), (1, .int (iI p0)), (2, .int (iI p1)), (3, .int (iI p2)), (4, .int (iI p3))] [0, 1, 2, 3, 4] rfl ?_
              exact HJ5 _ h (okI_lit rfl)
            · have h := h.2 hb86
              refine z_sub [(0, .ref (zA G 45)), (1, .int (iI p0)), (2, .int (iI p1)), (3, .int (iI p2)), (4, .int (iI p3))] [0, 1, 2, 3, 4] rfl ?_
              exact HJ76 h
theorem d_m_divide_0 : DD b_m_divide 0 (.aload_n 0) 1 1 := ⟨by decide +kernel, rfl⟩
theorem d_m_divide_1 : DD b_m_divide 1 (.iconst 0) 1 2 := ⟨by decide +kernel, rfl⟩
theorem d_m_divide_2 : DD b_m_divide 2 (.putfield 49) 3 5 := ⟨by decide +kernel, rfl⟩
theorem d_m_divide_5 : DD b_m_divide 5 (.aload_n 0) 1 6 := ⟨by decide +kernel, rfl⟩
theorem d_m_divide_6 : DD b_m_divide 6 (.iload_n 2) 1 7 := ⟨by decide +kernel, rfl⟩
theorem d_m_divide_7 : DD b_m_divide 7 (.invokestatic 83) 3 10 := ⟨by decide +kernel, rfl⟩
theorem d_m_divide_10 : DB b_m_divide 10 (.ifCond .eq 31) 31 13 41 := ⟨by decide +kernel, rfl, rfl⟩
theorem d_m_divide_13 : DD b_m_divide 13 (.iload_n 3) 1 14 := ⟨by decide +kernel, rfl⟩
theorem d_m_divide_14 : DD b_m_divide 14 (.invokestatic 83) 3 17 := ⟨by decide +kernel, rfl⟩
theorem d_m_divide_17 : DB b_m_divide 17 (.ifCond .eq 24) 24 20 41 := ⟨by decide +kernel, rfl, rfl⟩
theorem d_m_divide_20 : DD b_m_divide 20 (.iload 4) 2 22 := ⟨by decide +kernel, rfl⟩
theorem d_m_divide_22 : DD b_m_divide 22 (.invokestatic 83) 3 25 := ⟨by decide +kernel, rfl⟩
theorem d_m_divide_25 : DB b_m_divide 25 (.ifCond .eq 16) 16 28 41 := ⟨by decide +kernel, rfl, rfl⟩
theorem d_m_divide_28 : DD b_m_divide 28 (.iload 5) 2 30 := ⟨by decide +kernel, rfl⟩
theorem d_m_divide_30 : DD b_m_divide 30 (.invokestatic 83) 3 33 := ⟨by decide +kernel, rfl⟩
theorem d_m_divide_33 : DB b_m_divide 33 (.ifCond .eq 8) 8 36 41 := ⟨by decide +kernel, rfl, rfl⟩
theorem d_m_divide_36 : DD b_m_divide 36 (.iload_n 2) 1 37 := ⟨by decide +kernel, rfl⟩
theorem d_m_divide_37 : DD b_m_divide 37 (.iload_n 3) 1 38 := ⟨by decide +kernel, rfl⟩
theorem d_m_divide_38 : DB b_m_divide 38 (.if_icmp .ne 7) 7 41 45 := ⟨by decide +kernel, rfl, rfl⟩
theorem d_m_divide_41 : DD b_m_divide 41 (.iconst 1) 1 42 := ⟨by decide +kernel, rfl⟩
theorem d_m_divide_42 : DB b_m_divide 42 (.goto 4) 4 45 46 := ⟨by decide +kernel, rfl, rfl⟩
theorem d_m_divide_45 : DD b_m_divide 45 (.iconst 0) 1 46 := ⟨by decide +kernel, rfl⟩
theorem d_m_divide_46 : DD b_m_divide 46 (.iconst 1) 1 47 := ⟨by decide +kernel, rfl⟩
theorem d_m_divide_47 : DD b_m_divide 47 (.invokevirtual 79) 3 50 := ⟨by decide +kernel, rfl⟩
theorem d_m_divide_50 : DB b_m_divide 50 (.ifCond .ne 26) 26 53 76 := ⟨by decide +kernel, rfl, rfl⟩
theorem d_m_divide_53 : DD b_m_divide 53 (.aload_n 0) 1 54 := ⟨by decide +kernel, rfl⟩
theorem d_m_divide_54 : DD b_m_divide 54 (.aload_n 0) 1 55 := ⟨by decide +kernel, rfl⟩
theorem d_m_divide_55 : DD b_m_divide 55 (.getfield 16) 3 58 := ⟨by decide +kernel, rfl⟩
theorem d_m_divide_58 : DD b_m_divide 58 (.iload 5) 2 60 := ⟨by decide +kernel, rfl⟩
theorem d_m_divide_60 : DD b_m_divide 60 .iaload 1 61 := ⟨by decide +kernel, rfl⟩
theorem d_m_divide_61 : DB b_m_divide 61 (.ifCond .ne 7) 7 64 68 := ⟨by decide +kernel, rfl, rfl⟩
theorem d_m_divide_64 : DD b_m_divide 64 (.iconst 1) 1 65 := ⟨by decide +kernel, rfl⟩
theorem d_m_divide_65 : DB b_m_divide 65 (.goto 4) 4 68 69 := ⟨by decide +kernel, rfl, rfl⟩
theorem d_m_divide_68 : DD b_m_divide 68 (.iconst 0) 1 69 := ⟨by decide +kernel, rfl⟩
theorem d_m_divide_69 : DD b_m_divide 69 (.iconst 2) 1 70 := ⟨by decide +kernel, rfl⟩
theorem d_m_divide_70 : DD b_m_divide 70 (.invokevirtual 79) 3 73 := ⟨by decide +kernel, rfl⟩
theorem d_m_divide_73 : DB b_m_divide 73 (.ifCond .eq 5) 5 76 78 := ⟨by decide +kernel, rfl, rfl⟩
theorem d_m_divide_76 : DD b_m_divide 76 (.iconst 0) 1 77 := ⟨by decide +kernel, rfl⟩
theorem d_m_divide_77 : DD b_m_divide 77 .ireturn 1 78 := ⟨by decide +kernel, rfl⟩
theorem d_m_divide_78 : DD b_m_divide 78 (.aload_n 0) 1 79 := ⟨by decide +kernel, rfl⟩
theorem d_m_divide_79 : DD b_m_divide 79 (.iload 4) 2 81 := ⟨by decide +kernel, rfl⟩
theorem d_m_divide_81 : DD b_m_divide 81 (.aload_n 0) 1 82 := ⟨by decide +kernel, rfl⟩
theorem d_m_divide_82 : DD b_m_divide 82 (.getfield 22) 3 85 := ⟨by decide +kernel, rfl⟩
theorem d_m_divide_85 : DD b_m_divide 85 (.invokevirtual 72) 3 88 := ⟨by decide +kernel, rfl⟩
theorem d_m_divide_88 : DD b_m_divide 88 (.istore 6) 2 90 := ⟨by decide +kernel, rfl⟩
theorem d_m_divide_90 : DD b_m_divide 90 (.aload_n 0) 1 91 := ⟨by decide +kernel, rfl⟩
theorem d_m_divide_91 : DD b_m_divide 91 (.iload 5) 2 93 := ⟨by decide +kernel, rfl⟩
theorem d_m_divide_93 : DD b_m_divide 93 (.aload_n 0) 1 94 := ⟨by decide +kernel, rfl⟩
theorem d_m_divide_94 : DD b_m_divide 94 (.getfield 25) 3 97 := ⟨by decide +kernel, rfl⟩
theorem d_m_divide_97 : DD b_m_divide 97 (.invokevirtual 72) 3 100 := ⟨by decide +kernel, rfl⟩
theorem d_m_divide_100 : DD b_m_divide 100 (.istore 7) 2 102 := ⟨by decide +kernel, rfl⟩
theorem d_m_divide_102 : DD b_m_divide 102 (.aload_n 0) 1 103 := ⟨by decide +kernel, rfl⟩
theorem d_m_divide_103 : DD b_m_divide 103 (.getfield 16) 3 106 := ⟨by decide +kernel, rfl⟩
theorem d_m_divide_106 : DD b_m_divide 106 (.iload 4) 2 108 := ⟨by decide +kernel, rfl⟩
theorem d_m_divide_108 : DD b_m_divide 108 .iaload 1 109 := ⟨by decide +kernel, rfl⟩
theorem d_m_divide_109 : DD b_m_divide 109 (.istore 8) 2 111 := ⟨by decide +kernel, rfl⟩
theorem d_m_divide_111 : DD b_m_divide 111 (.aload_n 0) 1 112 := ⟨by decide +kernel, rfl⟩
theorem d_m_divide_112 : DD b_m_divide 112 (.getfield 16) 3 115 := ⟨by decide +kernel, rfl⟩
theorem d_m_divide_115 : DD b_m_divide 115 (.iload 5) 2 117 := ⟨by decide +kernel, rfl⟩
theorem d_m_divide_117 : DD b_m_divide 117 .iaload 1 118 := ⟨by decide +kernel, rfl⟩
theorem d_m_divide_118 : DD b_m_divide 118 (.istore 9) 2 120 := ⟨by decide +kernel, rfl⟩
theorem d_m_divide_120 : DD b_m_divide 120 (.aload_n 0) 1 121 := ⟨by decide +kernel, rfl⟩
theorem d_m_divide_121 : DD b_m_divide 121 (.aload_n 0) 1 122 := ⟨by decide +kernel, rfl⟩
theorem d_m_divide_122 : DD b_m_divide 122 (.getfield 22) 3 125 := ⟨by decide +kernel, rfl⟩
theorem d_m_divide_125 : DD b_m_divide 125 (.iload 6) 2 127 := ⟨by decide +kernel, rfl⟩
theorem d_m_divide_127 : DD b_m_divide 127 (.aload_n 0) 1 128 := ⟨by decide +kernel, rfl⟩
theorem d_m_divide_128 : DD b_m_divide 128 (.getfield 25) 3 131 := ⟨by decide +kernel, rfl⟩
theorem d_m_divide_131 : DD b_m_divide 131 (.iload 7) 2 133 := ⟨by decide +kernel, rfl⟩
theorem d_m_divide_133 : DD b_m_divide 133 (.aload_n 0) 1 134 := ⟨by decide +kernel, rfl⟩
theorem d_m_divide_134 : DD b_m_divide 134 (.getfield 28) 3 137 := ⟨by decide +kernel, rfl⟩
theorem d_m_divide_137 : DD b_m_divide 137 (.invokevirtual 117) 3 140 := ⟨by decide +kernel, rfl⟩
theorem d_m_divide_140 : DD b_m_divide 140 (.istore 6) 2 142 := ⟨by decide +kernel, rfl⟩
theorem d_m_divide_142 : DD b_m_divide 142 (.aload_n 0) 1 143 := ⟨by decide +kernel, rfl⟩
theorem d_m_divide_143 : DD b_m_divide 143 (.getfield 64) 3 146 := ⟨by decide +kernel, rfl⟩
theorem d_m_divide_146 : DD b_m_divide 146 (.istore 10) 2 148 := ⟨by decide +kernel, rfl⟩
theorem d_m_divide_148 : DD b_m_divide 148 (.iload_n 1) 1 149 := ⟨by decide +kernel, rfl⟩
theorem d_m_divide_149 : DB b_m_divide 149 (.ifCond .eq 129) 129 152 278 := ⟨by decide +kernel, rfl, rfl⟩
theorem d_m_divide_152 : DD b_m_divide 152 (.iload 6) 2 154 := ⟨by decide +kernel, rfl⟩
theorem d_m_divide_154 : DB b_m_divide 154 (.ifCond .le 124) 124 157 278 := ⟨by decide +kernel, rfl, rfl⟩
theorem d_m_divide_157 : DD b_m_divide 157 (.iload 8) 2 159 := ⟨by decide +kernel, rfl⟩
theorem d_m_divide_159 : DD b_m_divide 159 (.iload 9) 2 161 := ⟨by decide +kernel, rfl⟩
theorem d_m_divide_161 : DB b_m_divide 161 (.if_icmp .eq 117) 117 164 278 := ⟨by decide +kernel, rfl, rfl⟩
theorem d_m_divide_164 : DD b_m_divide 164 (.aload_n 0) 1 165 := ⟨by decide +kernel, rfl⟩
theorem d_m_divide_165 : DD b_m_divide 165 (.getfield 31) 3 168 := ⟨by decide +kernel, rfl⟩
theorem d_m_divide_168 : DD b_m_divide 168 (.iconst 0) 1 169 := ⟨by decide +kernel, rfl⟩
theorem d_m_divide_169 : DD b_m_divide 169 (.iconst 1) 1 170 := ⟨by decide +kernel, rfl⟩
theorem d_m_divide_170 : DD b_m_divide 170 .iastore 1 171 := ⟨by decide +kernel, rfl⟩
theorem d_m_divide_171 : DD b_m_divide 171 (.aload_n 0) 1 172 := ⟨by decide +kernel, rfl⟩
theorem d_m_divide_172 : DD b_m_divide 172 (.getfield 28) 3 175 := ⟨by decide +kernel, rfl⟩
theorem d_m_divide_175 : DD b_m_divide 175 (.iload 10) 2 177 := ⟨by decide +kernel, rfl⟩
theorem d_m_divide_177 : DD b_m_divide 177 (.aload_n 0) 1 178 := ⟨by decide +kernel, rfl⟩
theorem d_m_divide_178 : DD b_m_divide 178 (.getfield 31) 3 181 := ⟨by decide +kernel, rfl⟩
theorem d_m_divide_181 : DD b_m_divide 181 (.iconst 1) 1 182 := ⟨by decide +kernel, rfl⟩
theorem d_m_divide_182 : DD b_m_divide 182 (.aload_n 0) 1 183 := ⟨by decide +kernel, rfl⟩
theorem d_m_divide_183 : DD b_m_divide 183 (.getfield 28) 3 186 := ⟨by decide +kernel, rfl⟩
theorem d_m_divide_186 : DD b_m_divide 186 (.invokestatic 111) 3 189 := ⟨by decide +kernel, rfl⟩
theorem d_m_divide_189 : DD b_m_divide 189 (.istore 10) 2 191 := ⟨by decide +kernel, rfl⟩
theorem d_m_divide_191 : DD b_m_divide 191 (.aload_n 0) 1 192 := ⟨by decide +kernel, rfl⟩
theorem d_m_divide_192 : DD b_m_divide 192 (.getfield 25) 3 195 := ⟨by decide +kernel, rfl⟩
theorem d_m_divide_195 : DD b_m_divide 195 (.iload 7) 2 197 := ⟨by decide +kernel, rfl⟩
theorem d_m_divide_197 : DD b_m_divide 197 (.aload_n 0) 1 198 := ⟨by decide +kernel, rfl⟩
theorem d_m_divide_198 : DD b_m_divide 198 (.getfield 22) 3 201 := ⟨by decide +kernel, rfl⟩
theorem d_m_divide_201 : DD b_m_divide 201 (.iload 6) 2 203 := ⟨by decide +kernel, rfl⟩
theorem d_m_divide_203 : DD b_m_divide 203 (.aload_n 0) 1 204 := ⟨by decide +kernel, rfl⟩
theorem d_m_divide_204 : DD b_m_divide 204 (.getfield 31) 3 207 := ⟨by decide +kernel, rfl⟩
theorem d_m_divide_207 : DD b_m_divide 207 (.invokestatic 114) 3 210 := ⟨by decide +kernel, rfl⟩
theorem d_m_divide_210 : DD b_m_divide 210 (.istore 6) 2 212 := ⟨by decide +kernel, rfl⟩
theorem d_m_divide_212 : DD b_m_divide 212 (.aload_n 0) 1 213 := ⟨by decide +kernel, rfl⟩
theorem d_m_divide_213 : DD b_m_divide 213 (.aload_n 0) 1 214 := ⟨by decide +kernel, rfl⟩
theorem d_m_divide_214 : DD b_m_divide 214 (.getfield 28) 3 217 := ⟨by decide +kernel, rfl⟩
theorem d_m_divide_217 : DD b_m_divide 217 (.iload 10) 2 219 := ⟨by decide +kernel, rfl⟩
theorem d_m_divide_219 : DD b_m_divide 219 (.invokestatic 76) 3 222 := ⟨by decide +kernel, rfl⟩
theorem d_m_divide_222 : DD b_m_divide 222 (.sipush 2048) 3 225 := ⟨by decide +kernel, rfl⟩
theorem d_m_divide_225 : DB b_m_divide 225 (.if_icmp .le 7) 7 228 232 := ⟨by decide +kernel, rfl, rfl⟩
theorem d_m_divide_228 : DD b_m_divide 228 (.iconst 1) 1 229 := ⟨by decide +kernel, rfl⟩
theorem d_m_divide_229 : DB b_m_divide 229 (.goto 4) 4 232 233 := ⟨by decide +kernel, rfl, rfl⟩
theorem d_m_divide_232 : DD b_m_divide 232 (.iconst 0) 1 233 := ⟨by decide +kernel, rfl⟩
theorem d_m_divide_233 : DD b_m_divide 233 (.iconst 2) 1 234 := ⟨by decide +kernel, rfl⟩
theorem d_m_divide_234 : DD b_m_divide 234 (.invokevirtual 79) 3 237 := ⟨by decide +kernel, rfl⟩
theorem d_m_divide_237 : DB b_m_divide 237 (.ifCond .eq 5) 5 240 242 := ⟨by decide +kernel, rfl, rfl⟩
theorem d_m_divide_240 : DD b_m_divide 240 (.iconst 0) 1 241 := ⟨by decide +kernel, rfl⟩
theorem d_m_divide_241 : DD b_m_divide 241 .ireturn 1 242 := ⟨by decide +kernel, rfl⟩
theorem d_m_divide_242 : DD b_m_divide 242 (.aload_n 0) 1 243 := ⟨by decide +kernel, rfl⟩
theorem d_m_divide_243 : DD b_m_divide 243 (.iload_n 2) 1 244 := ⟨by decide +kernel, rfl⟩
theorem d_m_divide_244 : DD b_m_divide 244 (.iload 8) 2 246 := ⟨by decide +kernel, rfl⟩
theorem d_m_divide_246 : DD b_m_divide 246 (.iload 9) 2 248 := ⟨by decide +kernel, rfl⟩
theorem d_m_divide_248 : DD b_m_divide 248 .imul 1 249 := ⟨by decide +kernel, rfl⟩
theorem d_m_divide_249 : DD b_m_divide 249 (.aload_n 0) 1 250 := ⟨by decide +kernel, rfl⟩
theorem d_m_divide_250 : DD b_m_divide 250 (.getfield 28) 3 253 := ⟨by decide +kernel, rfl⟩
theorem d_m_divide_253 : DD b_m_divide 253 (.iload 10) 2 255 := ⟨by decide +kernel, rfl⟩
theorem d_m_divide_255 : DD b_m_divide 255 (.iconst 2) 1 256 := ⟨by decide +kernel, rfl⟩
theorem d_m_divide_256 : DD b_m_divide 256 (.invokevirtual 91) 3 259 := ⟨by decide +kernel, rfl⟩
theorem d_m_divide_259 : DD b_m_divide 259 .pop 1 260 := ⟨by decide +kernel, rfl⟩
theorem d_m_divide_260 : DD b_m_divide 260 (.aload_n 0) 1 261 := ⟨by decide +kernel, rfl⟩
theorem d_m_divide_261 : DD b_m_divide 261 (.iload_n 3) 1 262 := ⟨by decide +kernel, rfl⟩
theorem d_m_divide_262 : DD b_m_divide 262 (.iload 9) 2 264 := ⟨by decide +kernel, rfl⟩
theorem d_m_divide_264 : DD b_m_divide 264 (.aload_n 0) 1 265 := ⟨by decide +kernel, rfl⟩
theorem d_m_divide_265 : DD b_m_divide 265 (.getfield 31) 3 268 := ⟨by decide +kernel, rfl⟩
theorem d_m_divide_268 : DD b_m_divide 268 (.iload 6) 2 270 := ⟨by decide +kernel, rfl⟩
theorem d_m_divide_270 : DD b_m_divide 270 (.iconst 2) 1 271 := ⟨by decide +kernel, rfl⟩
theorem d_m_divide_271 : DD b_m_divide 271 (.invokevirtual 91) 3 274 := ⟨by decide +kernel, rfl⟩
theorem d_m_divide_274 : DD b_m_divide 274 .pop 1 275 := ⟨by decide +kernel, rfl⟩
theorem d_m_divide_275 : DB b_m_divide 275 (.goto 36) 36 278 311 := ⟨by decide +kernel, rfl, rfl⟩
theorem d_m_divide_278 : DD b_m_divide 278 (.aload_n 0) 1 279 := ⟨by decide +kernel, rfl⟩
theorem d_m_divide_279 : DD b_m_divide 279 (.iload_n 2) 1 280 := ⟨by decide +kernel, rfl⟩
theorem d_m_divide_280 : DD b_m_divide 280 (.iload 8) 2 282 := ⟨by decide +kernel, rfl⟩
theorem d_m_divide_282 : DD b_m_divide 282 (.iload 9) 2 284 := ⟨by decide +kernel, rfl⟩
theorem d_m_divide_284 : DD b_m_divide 284 .imul 1 285 := ⟨by decide +kernel, rfl⟩
theorem d_m_divide_285 : DD b_m_divide 285 (.aload_n 0) 1 286 := ⟨by decide +kernel, rfl⟩
theorem d_m_divide_286 : DD b_m_divide 286 (.getfield 28) 3 289 := ⟨by decide +kernel, rfl⟩
theorem d_m_divide_289 : DD b_m_divide 289 (.iload 10) 2 291 := ⟨by decide +kernel, rfl⟩
theorem d_m_divide_291 : DD b_m_divide 291 (.iconst 2) 1 292 := ⟨by decide +kernel, rfl⟩
theorem d_m_divide_292 : DD b_m_divide 292 (.invokevirtual 91) 3 295 := ⟨by decide +kernel, rfl⟩
theorem d_m_divide_295 : DD b_m_divide 295 .pop 1 296 := ⟨by decide +kernel, rfl⟩
theorem d_m_divide_296 : DD b_m_divide 296 (.aload_n 0) 1 297 := ⟨by decide +kernel, rfl⟩
theorem d_m_divide_297 : DD b_m_divide 297 (.iload_n 3) 1 298 := ⟨by decide +kernel, rfl⟩
theorem d_m_divide_298 : DD b_m_divide 298 (.iload 8) 2 300 := ⟨by decide +kernel, rfl⟩
theorem d_m_divide_300 : DD b_m_divide 300 (.aload_n 0) 1 301 := ⟨by decide +kernel, rfl⟩
theorem d_m_divide_301 : DD b_m_divide 301 (.getfield 22) 3 304 := ⟨by decide +kernel, rfl⟩
theorem d_m_divide_304 : DD b_m_divide 304 (.iload 6) 2 306 := ⟨by decide +kernel, rfl⟩
theorem d_m_divide_306 : DD b_m_divide 306 (.iconst 2) 1 307 := ⟨by decide +kernel, rfl⟩
theorem d_m_divide_307 : DD b_m_divide 307 (.invokevirtual 91) 3 310 := ⟨by decide +kernel, rfl⟩
theorem d_m_divide_310 : DD b_m_divide 310 .pop 1 311 := ⟨by decide +kernel, rfl⟩
theorem d_m_divide_311 : DD b_m_divide 311 (.aload_n 0) 1 312 := ⟨by decide +kernel, rfl⟩
theorem d_m_divide_312 : DD b_m_divide 312 (.getfield 16) 3 315 := ⟨by decide +kernel, rfl⟩
theorem d_m_divide_315 : DD b_m_divide 315 (.iload_n 3) 1 316 := ⟨by decide +kernel, rfl⟩
theorem d_m_divide_316 : DD b_m_divide 316 .iaload 1 317 := ⟨by decide +kernel, rfl⟩
theorem d_m_divide_317 : DD b_m_divide 317 .ireturn 1 318 := ⟨by decide +kernel, rfl⟩
set_option maxRecDepth 20000 in
set_option maxHeartbeats 4000000 in
theorem c_m_divide (l : Launch) (G : ZG) {p0 p1 p2 p3 p4 : Int} {σ : Mem} {K : Int → Mem → Prop} (h : wp_m_divide p0 p1 p2 p3 p4 σ K) (h_p0 : okI p0) (h_p1 : okI p1) (h_p2 : okI p2) (h_p3 : okI p3) (h_p4 : okI p4) : Ct l G y_m_divide (.code y_m_divide b_m_divide 11 (some .int)) { frames := 2, cells := 0, slots := 0, locals := 61 } 0 0 1 [.ref (zA G 45), .int (iI p0), .int (iI p1), .int (iI p2), .int (iI p3), .int (iI p4)] σ K (fun _ _ => False) := by
  unfold wp_m_divide at h
  refine Ct.ofZ [(0, .ref (zA G 45)), (1, .int (iI p0)), (2, .int (iI p1)), (3, .int (iI p2)), (4, .int (iI p3)), (5, .int (iI p4))] "LimbDeskModel" (by decide) rfl (Nat.le_of_ble_eq_true rfl) rfl ?_
  intro E hR hlE C hr hX
  subst hlE
  have hroom_m_bits0 : 0 + 1 ≤ (zR E).frames ∧ 8 + (4 + 11) + 0 ≤ (zR E).locals ∧ 0 + 0 ≤ (zR E).cells ∧ 0 + 0 ≤ (zR E).slots := by rw [hR]; decide
  have hroom_m_divided : 1 + 1 ≤ (zR E).frames ∧ 8 + (18 + 11) + 24 ≤ (zR E).locals ∧ 0 + 0 ≤ (zR E).cells ∧ 0 + 0 ≤ (zR E).slots := by rw [hR]; decide
  have hroom_m_fails : 0 + 1 ≤ (zR E).frames ∧ 8 + (3 + 11) + 0 ≤ (zR E).locals ∧ 0 + 0 ≤ (zR E).cells ∧ 0 + 0 ≤ (zR E).slots := by rw [hR]; decide
  have hroom_m_isRegister : 1 + 1 ≤ (zR E).frames ∧ 8 + (1 + 11) + 22 ≤ (zR E).locals ∧ 0 + 0 ≤ (zR E).cells ∧ 0 + 0 ≤ (zR E).slots := by rw [hR]; decide
  have hroom_m_keep : 1 + 1 ≤ (zR E).frames ∧ 8 + (8 + 11) + 23 ≤ (zR E).locals ∧ 0 + 0 ≤ (zR E).cells ∧ 0 + 0 ≤ (zR E).slots := by rw [hR]; decide
  have hroom_m_less : 1 + 1 ≤ (zR E).frames ∧ 8 + (7 + 11) + 22 ≤ (zR E).locals ∧ 0 + 0 ≤ (zR E).cells ∧ 0 + 0 ≤ (zR E).slots := by rw [hR]; decide
  have hroom_m_load : 0 + 1 ≤ (zR E).frames ∧ 8 + (4 + 11) + 0 ≤ (zR E).locals ∧ 0 + 0 ≤ (zR E).cells ∧ 0 + 0 ≤ (zR E).slots := by rw [hR]; decide
  have hroom_m_plus : 1 + 1 ≤ (zR E).frames ∧ 8 + (8 + 11) + 22 ≤ (zR E).locals ∧ 0 + 0 ≤ (zR E).cells ∧ 0 + 0 ≤ (zR E).slots := by rw [hR]; decide
  clear hR
  obtain ⟨Q, hQ⟩ : ∃ Q, Q = MQX G (zb E) 1 K (fun _ _ => False) (zs E) 0 0 0 0 := ⟨_, rfl⟩
  show Z E G 11 0 0 (MQX G (zb E) 1 K (fun _ _ => False) (zs E) 0 0 0 0) σ 0 [(0, .ref (zA G 45)), (1, .int (iI p0)), (2, .int (iI p1)), (3, .int (iI p2)), (4, .int (iI p3)), (5, .int (iI p4))] []
  rw [← hQ]
  refine z_aload_n C 0 d_m_divide_0 rfl ?_
  refine z_iconst C d_m_divide_1 ?_
  refine z_mput_err C d_m_divide_2 k_460 ?_
  refine z_aload_n C 0 d_m_divide_5 rfl ?_
  refine z_iload_n C 2 d_m_divide_6 rfl ?_
  refine z_callS C [.int (iI p1)] [.ref (zA G 45)] 1 d_m_divide_7 (c_m_isRegister (zl E) G h h_p1) k_519 k_517 k_518 k_3 (by decide)  (by decide +kernel) rfl rfl (Nat.le_of_ble_eq_true rfl) hroom_m_isRegister (fun r1 _s95 ok2 hq => ?_) (fun _ _ hx => hx.elim)
  obtain ⟨hs_, hk_⟩ := hq
  subst hs_
  have h := hk_
  refine Jq1.walk (fun s3 => okI s3 → Z E G 11 0 0 Q (mS σ 45 0 0) 46 [(0, .ref (zA G 45)), (1, .int (iI p0)), (2, .int (iI p1)), (3, .int (iI p2)), (4, .int (iI p3)), (5, .int (iI p4))] [.int (iI s3), .ref (zA G 45)]) h ?_ ?_
  · intro s3 h ok4
    refine z_iconst C d_m_divide_46 ?_
    refine z_callV C "LimbDeskModel" [.int (iI s3), .int (iI 1)] [] 2 d_m_divide_47 (c_m_fails (zl E) G h ok4 (okI_lit rfl)) k_526 k_523 k_525 k_s6 k_3 (by decide) (recv_M C) (by decide +kernel) rfl rfl (Nat.le_of_ble_eq_true rfl) hroom_m_fails (fun r6 σ7 ok8 hq => ?_) (fun _ _ hx => hx.elim)
    have h := hq
    refine z_if_ne C d_m_divide_50 (okI_b ok8) (fun hb9 => ?_) (fun hb9 => ?_)
    · have h := h.1 hb9
      refine z_iconst C d_m_divide_76 ?_
      subst hQ
      exact z_ireturn C d_m_divide_77.1 hr ⟨Nat.zero_le _, Nat.zero_le _⟩ (okI_lit rfl) h
    · have h := h.2 hb9
      refine z_aload_n C 0 d_m_divide_53 rfl ?_
      refine z_aload_n C 0 d_m_divide_54 rfl ?_
      refine z_mget C 4 d_m_divide_55 (by decide) k_464 rfl rfl ?_
      refine z_iload C 5 d_m_divide_58 rfl ?_
      obtain ⟨hc10, h⟩ := h
      refine z_ialdN C (16) d_m_divide_60 (Or.inr ⟨by decide, by decide⟩) (by decide) hc10 ?_
      obtain ⟨ok11, h⟩ := h
      have hj : ∀ s13 : Int, s13 = (if (σ7 48 p4) ≠ 0 then 0 else 1) → Z E G 11 0 0 Q σ7 69 [(0, .ref (zA G 45)), (1, .int (iI p0)), (2, .int (iI p1)), (3, .int (iI p2)), (4, .int (iI p3)), (5, .int (iI p4))] [.int (iI s13), .ref (zA G 45)] := by
        intro s13 e14
        have h := h s13 e14
        have ok15 : okI s13 := by rw [e14]; split; exact (okI_lit rfl); exact (okI_lit rfl)
        refine z_iconst C d_m_divide_69 ?_
        refine z_callV C "LimbDeskModel" [.int (iI s13), .int (iI 2)] [] 2 d_m_divide_70 (c_m_fails (zl E) G h ok15 (okI_lit rfl)) k_526 k_523 k_525 k_s6 k_3 (by decide) (recv_M C) (by decide +kernel) rfl rfl (Nat.le_of_ble_eq_true rfl) hroom_m_fails (fun r16 σ17 ok18 hq => ?_) (fun _ _ hx => hx.elim)
        have h := hq
        refine z_if_eq C d_m_divide_73 (okI_b ok18) (fun hb19 => ?_) (fun hb19 => ?_)
        · have h := h.1 hb19
          refine z_aload_n C 0 d_m_divide_78 rfl ?_
          refine z_iload C 4 d_m_divide_79 rfl ?_
          refine z_aload_n C 0 d_m_divide_81 rfl ?_
          refine z_mget C 6 d_m_divide_82 (by decide) k_466 rfl rfl ?_
          refine z_callV C "LimbDeskModel" [.int (iI p3), .ref (zA G 50)] [] 2 d_m_divide_85 (c_m_load (zl E) G h h_p3 (Or.inr ⟨by decide, by decide⟩)) k_534 k_531 k_533 k_s8 k_3 (by decide) (recv_M C) (by decide +kernel) rfl rfl (Nat.le_of_ble_eq_true rfl) hroom_m_load (fun r20 σ21 ok22 hq => ?_) (fun _ _ hx => hx.elim)
          have h := hq
          refine z_istore C [(6, .int (iI r20)), (0, .ref (zA G 45)), (1, .int (iI p0)), (2, .int (iI p1)), (3, .int (iI p2)), (4, .int (iI p3)), (5, .int (iI p4))] d_m_divide_88 (by decide) rfl ?_
          refine z_aload_n C 1 d_m_divide_90 rfl ?_
          refine z_iload C 6 d_m_divide_91 rfl ?_
          refine z_aload_n C 1 d_m_divide_93 rfl ?_
          refine z_mget C 7 d_m_divide_94 (by decide) k_467 rfl rfl ?_
          refine z_callV C "LimbDeskModel" [.int (iI p4), .ref (zA G 51)] [] 2 d_m_divide_97 (c_m_load (zl E) G h h_p4 (Or.inr ⟨by decide, by decide⟩)) k_534 k_531 k_533 k_s8 k_3 (by decide) (recv_M C) (by decide +kernel) rfl rfl (Nat.le_of_ble_eq_true rfl) hroom_m_load (fun r23 σ24 ok25 hq => ?_) (fun _ _ hx => hx.elim)
          have h := hq
          refine z_istore C [(7, .int (iI r23)), (6, .int (iI r20)), (0, .ref (zA G 45)), (1, .int (iI p0)), (2, .int (iI p1)), (3, .int (iI p2)), (4, .int (iI p3)), (5, .int (iI p4))] d_m_divide_100 (by decide) rfl ?_
          refine z_aload_n C 2 d_m_divide_102 rfl ?_
          refine z_mget C 4 d_m_divide_103 (by decide) k_464 rfl rfl ?_
          refine z_iload C 6 d_m_divide_106 rfl ?_
          obtain ⟨hc26, h⟩ := h
          refine z_ialdN C (16) d_m_divide_108 (Or.inr ⟨by decide, by decide⟩) (by decide) hc26 ?_
          refine z_namei (fun v8_27 e28 => ?_)
          have h := h v8_27 e28
          refine z_istore C [(8, .int (iI v8_27)), (7, .int (iI r23)), (6, .int (iI r20)), (0, .ref (zA G 45)), (1, .int (iI p0)), (2, .int (iI p1)), (3, .int (iI p2)), (4, .int (iI p3)), (5, .int (iI p4))] d_m_divide_109 (by decide) rfl ?_
          refine z_aload_n C 3 d_m_divide_111 rfl ?_
          refine z_mget C 4 d_m_divide_112 (by decide) k_464 rfl rfl ?_
          refine z_iload C 8 d_m_divide_115 rfl ?_
          refine z_ialdN C (16) d_m_divide_117 (Or.inr ⟨by decide, by decide⟩) (by decide) hc10 ?_
          refine z_namei (fun v9_29 e30 => ?_)
          have h := h v9_29 e30
          refine z_istore C [(9, .int (iI v9_29)), (8, .int (iI v8_27)), (7, .int (iI r23)), (6, .int (iI r20)), (0, .ref (zA G 45)), (1, .int (iI p0)), (2, .int (iI p1)), (3, .int (iI p2)), (4, .int (iI p3)), (5, .int (iI p4))] d_m_divide_118 (by decide) rfl ?_
          refine z_aload_n C 4 d_m_divide_120 rfl ?_
          refine z_aload_n C 4 d_m_divide_121 rfl ?_
          refine z_mget C 6 d_m_divide_122 (by decide) k_466 rfl rfl ?_
          refine z_iload C 3 d_m_divide_125 rfl ?_
          refine z_aload_n C 4 d_m_divide_127 rfl ?_
          refine z_mget C 7 d_m_divide_128 (by decide) k_467 rfl rfl ?_
          refine z_iload C 2 d_m_divide_131 rfl ?_
          refine z_aload_n C 4 d_m_divide_133 rfl ?_
          refine z_mget C 8 d_m_divide_134 (by decide) k_468 rfl rfl ?_
          refine z_callV C "LimbDeskModel" [.ref (zA G 50), .int (iI r20), .ref (zA G 51), .int (iI r23), .ref (zA G 52)] [] 5 d_m_divide_137 (c_m_divided (zl E) G h (Or.inr ⟨by decide, by decide⟩) ok22 (Or.inr ⟨by decide, by decide⟩) ok25 (Or.inr ⟨by decide, by decide⟩)) k_593 k_590 k_592 k_s10 k_3 (by decide) (recv_M C) (by decide +kernel) rfl rfl (Nat.le_of_ble_eq_true rfl) hroom_m_divided (fun r31 σ32 ok33 hq => ?_) (fun _ _ hx => hx.elim)
          have h := hq
          refine z_istore C [(6, .int (iI r31)), (9, .int (iI v9_29)), (8, .int (iI v8_27)), (7, .int (iI r23)), (0, .ref (zA G 45)), (1, .int (iI p0)), (2, .int (iI p1)), (3, .int (iI p2)), (4, .int (iI p3)), (5, .int (iI p4))] d_m_divide_140 (by decide) rfl ?_
          refine z_aload_n C 4 d_m_divide_142 rfl ?_
          refine z_mget C 12 d_m_divide_143 (by decide) k_472 rfl rfl ?_
          refine z_namei (fun v10_34 e35 => ?_)
          have h := h v10_34 e35
          refine z_istore C [(10, .int (iI v10_34)), (6, .int (iI r31)), (9, .int (iI v9_29)), (8, .int (iI v8_27)), (7, .int (iI r23)), (0, .ref (zA G 45)), (1, .int (iI p0)), (2, .int (iI p1)), (3, .int (iI p2)), (4, .int (iI p3)), (5, .int (iI p4))] d_m_divide_146 (by decide) rfl ?_
          refine z_iload_n C 6 d_m_divide_148 rfl ?_
          refine Jo0.walk (fun σ36 => Z E G 11 0 0 Q σ36 311 [(0, .ref (zA G 45)), (3, .int (iI p2))] []) h ?_ ?_
          · intro σ36 h
            refine z_aload_n C 0 d_m_divide_311 rfl ?_
            refine z_mget C 4 d_m_divide_312 (by decide) k_464 rfl rfl ?_
            refine z_iload_n C 1 d_m_divide_315 rfl ?_
            obtain ⟨hc38, h⟩ := h
            refine z_ialdN C (16) d_m_divide_316 (Or.inr ⟨by decide, by decide⟩) (by decide) hc38 ?_
            obtain ⟨ok39, h⟩ := h
            subst hQ
            exact z_ireturn C d_m_divide_317.1 hr ⟨Nat.zero_le _, Nat.zero_le _⟩ ok39 h
          · intro J37 HJ37 h
            refine Jq0.walk (Z E G 11 0 0 Q σ32 278 [(0, .ref (zA G 45)), (2, .int (iI p1)), (3, .int (iI p2)), (6, .int (iI r31)), (8, .int (iI v8_27)), (9, .int (iI v9_29)), (10, .int (iI v10_34))] []) h ?_ ?_
            · intro h
              refine z_aload_n C 0 d_m_divide_278 rfl ?_
              refine z_iload_n C 1 d_m_divide_279 rfl ?_
              refine z_iload C 4 d_m_divide_280 rfl ?_
              refine z_iload C 5 d_m_divide_282 rfl ?_
              refine z_imul C d_m_divide_284 ?_
              refine z_aload_n C 0 d_m_divide_285 rfl ?_
              refine z_mget C 8 d_m_divide_286 (by decide) k_468 rfl rfl ?_
              refine z_iload C 6 d_m_divide_289 rfl ?_
              refine z_iconst C d_m_divide_291 ?_
              obtain ⟨ok41, h⟩ := h
              obtain ⟨ok42, h⟩ := h
              refine z_callV C "LimbDeskModel" [.int (iI p1), .int (iI (v8_27 * v9_29)), .ref (zA G 52), .int (iI v10_34), .int (iI 2)] [] 5 d_m_divide_292 (c_m_keep (zl E) G h h_p1 ok41 (Or.inr ⟨by decide, by decide⟩) ok42 (okI_lit rfl)) k_542 k_539 k_541 k_s9 k_3 (by decide) (recv_M C) (by decide +kernel) rfl rfl (Nat.le_of_ble_eq_true rfl) hroom_m_keep (fun r43 σ44 ok45 hq => ?_) (fun _ _ hx => hx.elim)
              have h := hq
              refine z_pop C d_m_divide_295 rfl ?_
              refine z_aload_n C 0 d_m_divide_296 rfl ?_
              refine z_iload_n C 2 d_m_divide_297 rfl ?_
              refine z_iload C 4 d_m_divide_298 rfl ?_
              refine z_aload_n C 0 d_m_divide_300 rfl ?_
              refine z_mget C 6 d_m_divide_301 (by decide) k_466 rfl rfl ?_
              refine z_iload C 3 d_m_divide_304 rfl ?_
              refine z_iconst C d_m_divide_306 ?_
              obtain ⟨ok46, h⟩ := h
              refine z_callV C "LimbDeskModel" [.int (iI p2), .int (iI v8_27), .ref (zA G 50), .int (iI r31), .int (iI 2)] [] 5 d_m_divide_307 (c_m_keep (zl E) G h h_p2 ok46 (Or.inr ⟨by decide, by decide⟩) ok33 (okI_lit rfl)) k_542 k_539 k_541 k_s9 k_3 (by decide) (recv_M C) (by decide +kernel) rfl rfl (Nat.le_of_ble_eq_true rfl) hroom_m_keep (fun r47 σ48 ok49 hq => ?_) (fun _ _ hx => hx.elim)
              have h := hq
              refine z_pop C d_m_divide_310 rfl ?_
              refine z_sub [(0, .ref (zA G 45)), (3, .int (iI p2))] [0, 2] rfl ?_
              exact HJ37 _ h
            · intro J40 HJ40 h
              refine z_if_eq C d_m_divide_149 h_p0 (fun hb50 => ?_) (fun hb50 => ?_)
              · have h := h.1 hb50
                refine z_sub [(0, .ref (zA G 45)), (2, .int (iI p1)), (3, .int (iI p2)), (6, .int (iI r31)), (8, .int (iI v8_27)), (9, .int (iI v9_29)), (10, .int (iI v10_34))] [5, 7, 8, 1, 3, 2, 0] rfl ?_
                exact HJ40 h
              · have h := h.2 hb50
                refine z_iload C 1 d_m_divide_152 rfl ?_
                refine z_if_le C d_m_divide_154 ok33 (fun hb51 => ?_) (fun hb51 => ?_)
                · have h := h.1 hb51
                  refine z_sub [(0, .ref (zA G 45)), (2, .int (iI p1)), (3, .int (iI p2)), (6, .int (iI r31)), (8, .int (iI v8_27)), (9, .int (iI v9_29)), (10, .int (iI v10_34))] [5, 7, 8, 1, 3, 2, 0] rfl ?_
                  exact HJ40 h
                · have h := h.2 hb51
                  refine z_iload C 3 d_m_divide_157 rfl ?_
                  refine z_iload C 2 d_m_divide_159 rfl ?_
                  obtain ⟨ok52, h⟩ := h
                  obtain ⟨ok53, h⟩ := h
                  refine z_icmp_eq C d_m_divide_161 ok52 ok53 (fun hb54 => ?_) (fun hb54 => ?_)
                  · have h := h.1 hb54
                    refine z_sub [(0, .ref (zA G 45)), (2, .int (iI p1)), (3, .int (iI p2)), (6, .int (iI r31)), (8, .int (iI v8_27)), (9, .int (iI v9_29)), (10, .int (iI v10_34))] [5, 7, 8, 1, 3, 2, 0] rfl ?_
                    exact HJ40 h
                  · have h := h.2 hb54
                    refine z_aload_n C 5 d_m_divide_164 rfl ?_
                    refine z_mget C 9 d_m_divide_165 (by decide) k_469 rfl rfl ?_
                    refine z_iconst C d_m_divide_168 ?_
                    refine z_iconst C d_m_divide_169 ?_
                    refine z_iastN C (9000) d_m_divide_170 (Or.inr ⟨by decide, by decide⟩) (by decide) ⟨by decide, by decide⟩ ?_
                    refine z_aload_n C 5 d_m_divide_171 rfl ?_
                    refine z_mget C 8 d_m_divide_172 (by decide) k_468 rfl rfl ?_
                    refine z_iload C 0 d_m_divide_175 rfl ?_
                    refine z_aload_n C 5 d_m_divide_177 rfl ?_
                    refine z_mget C 9 d_m_divide_178 (by decide) k_469 rfl rfl ?_
                    refine z_iconst C d_m_divide_181 ?_
                    refine z_aload_n C 5 d_m_divide_182 rfl ?_
                    refine z_mget C 8 d_m_divide_183 (by decide) k_468 rfl rfl ?_
                    obtain ⟨ok55, h⟩ := h
                    refine z_callS C [.ref (zA G 52), .int (iI v10_34), .ref (zA G 53), .int (iI 1), .ref (zA G 52)] [] 5 d_m_divide_186 (c_m_plus (zl E) G h (Or.inr ⟨by decide, by decide⟩) ok55 (Or.inr ⟨by decide, by decide⟩) (okI_lit rfl) (Or.inr ⟨by decide, by decide⟩)) k_578 k_576 k_577 k_3 (by decide)  (by decide +kernel) rfl rfl (Nat.le_of_ble_eq_true rfl) hroom_m_plus (fun r56 σ57 ok58 hq => ?_) (fun _ _ hx => hx.elim)
                    have h := hq
                    refine z_istore C [(10, .int (iI r56)), (6, .int (iI r31)), (9, .int (iI v9_29)), (8, .int (iI v8_27)), (7, .int (iI r23)), (0, .ref (zA G 45)), (1, .int (iI p0)), (2, .int (iI p1)), (3, .int (iI p2)), (4, .int (iI p3)), (5, .int (iI p4))] d_m_divide_189 (by decide) rfl ?_
                    refine z_aload_n C 5 d_m_divide_191 rfl ?_
                    refine z_mget C 7 d_m_divide_192 (by decide) k_467 rfl rfl ?_
                    refine z_iload C 4 d_m_divide_195 rfl ?_
                    refine z_aload_n C 5 d_m_divide_197 rfl ?_
                    refine z_mget C 6 d_m_divide_198 (by decide) k_466 rfl rfl ?_
                    refine z_iload C 1 d_m_divide_201 rfl ?_
                    refine z_aload_n C 5 d_m_divide_203 rfl ?_
                    refine z_mget C 9 d_m_divide_204 (by decide) k_469 rfl rfl ?_
                    refine z_callS C [.ref (zA G 51), .int (iI r23), .ref (zA G 50), .int (iI r31), .ref (zA G 53)] [] 5 d_m_divide_207 (c_m_less (zl E) G h (Or.inr ⟨by decide, by decide⟩) ok25 (Or.inr ⟨by decide, by decide⟩) ok33 (Or.inr ⟨by decide, by decide⟩)) k_585 k_583 k_584 k_3 (by decide)  (by decide +kernel) rfl rfl (Nat.le_of_ble_eq_true rfl) hroom_m_less (fun r59 σ60 ok61 hq => ?_) (fun _ _ hx => hx.elim)
                    have h := hq
                    refine z_istore C [(6, .int (iI r59)), (10, .int (iI r56)), (9, .int (iI v9_29)), (8, .int (iI v8_27)), (7, .int (iI r23)), (0, .ref (zA G 45)), (1, .int (iI p0)), (2, .int (iI p1)), (3, .int (iI p2)), (4, .int (iI p3)), (5, .int (iI p4))] d_m_divide_210 (by decide) rfl ?_
                    refine z_aload_n C 5 d_m_divide_212 rfl ?_
                    refine z_aload_n C 5 d_m_divide_213 rfl ?_
                    refine z_mget C 8 d_m_divide_214 (by decide) k_468 rfl rfl ?_
                    refine z_iload C 1 d_m_divide_217 rfl ?_
                    refine z_callS C [.ref (zA G 52), .int (iI r56)] [.ref (zA G 45)] 2 d_m_divide_219 (c_m_bits0 (zl E) G h (Or.inr ⟨by decide, by decide⟩) ok58) k_537 k_535 k_536 k_3 (by decide)  (by decide +kernel) rfl rfl (Nat.le_of_ble_eq_true rfl) hroom_m_bits0 (fun r62 _s79 ok63 hq => ?_) (fun _ _ hx => hx.elim)
                    obtain ⟨hs_, hk_⟩ := hq
                    subst hs_
                    have h := hk_
                    refine z_sipush C d_m_divide_222 (by decide) ?_
                    have hj : ∀ s65 : Int, s65 = (if r62 ≤ 2048 then 0 else 1) → Z E G 11 0 0 Q σ60 233 [(6, .int (iI r59)), (10, .int (iI r56)), (9, .int (iI v9_29)), (8, .int (iI v8_27)), (7, .int (iI r23)), (0, .ref (zA G 45)), (1, .int (iI p0)), (2, .int (iI p1)), (3, .int (iI p2)), (4, .int (iI p3)), (5, .int (iI p4))] [.int (iI s65), .ref (zA G 45)] := by
                      intro s65 e66
                      have h := h s65 e66
                      have ok67 : okI s65 := by rw [e66]; split; exact (okI_lit rfl); exact (okI_lit rfl)
                      refine z_iconst C d_m_divide_233 ?_
                      refine z_callV C "LimbDeskModel" [.int (iI s65), .int (iI 2)] [] 2 d_m_divide_234 (c_m_fails (zl E) G h ok67 (okI_lit rfl)) k_526 k_523 k_525 k_s6 k_3 (by decide) (recv_M C) (by decide +kernel) rfl rfl (Nat.le_of_ble_eq_true rfl) hroom_m_fails (fun r68 σ69 ok70 hq => ?_) (fun _ _ hx => hx.elim)
                      have h := hq
                      refine z_if_eq C d_m_divide_237 (okI_b ok70) (fun hb71 => ?_) (fun hb71 => ?_)
                      · have h := h.1 hb71
                        refine z_aload_n C 5 d_m_divide_242 rfl ?_
                        refine z_iload_n C 7 d_m_divide_243 rfl ?_
                        refine z_iload C 3 d_m_divide_244 rfl ?_
                        refine z_iload C 2 d_m_divide_246 rfl ?_
                        refine z_imul C d_m_divide_248 ?_
                        refine z_aload_n C 5 d_m_divide_249 rfl ?_
                        refine z_mget C 8 d_m_divide_250 (by decide) k_468 rfl rfl ?_
                        refine z_iload C 1 d_m_divide_253 rfl ?_
                        refine z_iconst C d_m_divide_255 ?_
                        obtain ⟨ok72, h⟩ := h
                        refine z_callV C "LimbDeskModel" [.int (iI p1), .int (iI (v8_27 * v9_29)), .ref (zA G 52), .int (iI r56), .int (iI 2)] [] 5 d_m_divide_256 (c_m_keep (zl E) G h h_p1 ok72 (Or.inr ⟨by decide, by decide⟩) ok58 (okI_lit rfl)) k_542 k_539 k_541 k_s9 k_3 (by decide) (recv_M C) (by decide +kernel) rfl rfl (Nat.le_of_ble_eq_true rfl) hroom_m_keep (fun r73 σ74 ok75 hq => ?_) (fun _ _ hx => hx.elim)
                        have h := hq
                        refine z_pop C d_m_divide_259 rfl ?_
                        refine z_aload_n C 5 d_m_divide_260 rfl ?_
                        refine z_iload_n C 8 d_m_divide_261 rfl ?_
                        refine z_iload C 2 d_m_divide_262 rfl ?_
                        refine z_aload_n C 5 d_m_divide_264 rfl ?_
                        refine z_mget C 9 d_m_divide_265 (by decide) k_469 rfl rfl ?_
                        refine z_iload C 0 d_m_divide_268 rfl ?_
                        refine z_iconst C d_m_divide_270 ?_
                        refine z_callV C "LimbDeskModel" [.int (iI p2), .int (iI v9_29), .ref (zA G 53), .int (iI r59), .int (iI 2)] [] 5 d_m_divide_271 (c_m_keep (zl E) G h h_p2 ok53 (Or.inr ⟨by decide, by decide⟩) ok61 (okI_lit rfl)) k_542 k_539 k_541 k_s9 k_3 (by decide) (recv_M C) (by decide +kernel) rfl rfl (Nat.le_of_ble_eq_true rfl) hroom_m_keep (fun r76 σ77 ok78 hq => ?_) (fun _ _ hx => hx.elim)
                        have h := hq
                        refine z_pop C d_m_divide_274 rfl ?_
                        refine z_goto C d_m_divide_275 ?_
                        refine z_sub [(0, .ref (zA G 45)), (3, .int (iI p2))] [5, 8] rfl ?_
                        exact HJ37 _ h
                      · have h := h.2 hb71
                        refine z_iconst C d_m_divide_240 ?_
                        subst hQ
                        exact z_ireturn C d_m_divide_241.1 hr ⟨Nat.zero_le _, Nat.zero_le _⟩ (okI_lit rfl) h
                    clear h
                    refine z_icmp_le C d_m_divide_225 ok63 (okI_lit rfl) (fun hb64 => ?_) (fun hb64 => ?_)
                    · refine z_iconst C d_m_divide_232 ?_
                      exact hj _ (if_pos hb64).symm
                    · refine z_iconst C d_m_divide_228 ?_
                      refine z_goto C d_m_divide_229 ?_
                      exact hj _ (if_neg (Int.not_le.mpr hb64)).symm
        · have h := h.2 hb19
          refine z_iconst C d_m_divide_76 ?_
          subst hQ
          exact z_ireturn C d_m_divide_77.1 hr ⟨Nat.zero_le _, Nat.zero_le _⟩ (okI_lit rfl) h
      clear h
      refine z_if_ne C d_m_divide_61 ok11 (fun hb12 => ?_) (fun hb12 => ?_)
      · refine z_iconst C d_m_divide_68 ?_
        exact hj _ (if_pos hb12).symm
      · refine z_iconst C d_m_divide_64 ?_
        refine z_goto C d_m_divide_65 ?_
        exact hj _ (if_neg (not_not_intro hb12)).symm
  · intro J5 HJ5 h
    refine Jq0.walk (Z E G 11 0 0 Q (mS σ 45 0 0) 41 [(0, .ref (zA G 45)), (1, .int (iI p0)), (2, .int (iI p1)), (3, .int (iI p2)), (4, .int (iI p3)), (5, .int (iI p4))] [.ref (zA G 45)]) h ?_ ?_
    · intro h
      refine z_iconst C d_m_divide_41 ?_
      refine z_goto C d_m_divide_42 ?_
      refine z_sub [(0, .ref (zA G 45)), (1, .int (iI p0)), (2, .int (iI p1)), (3, .int (iI p2)), (4, .int (iI p3)), (5, .int (iI p4))] [0, 1, 2, 3, 4, 5] rfl ?_
      exact HJ5 _ h (okI_lit rfl)
    · intro J80 HJ80 h
      refine z_if_eq C d_m_divide_10 (okI_b ok2) (fun hb81 => ?_) (fun hb81 => ?_)
      · have h := h.1 hb81
        refine z_sub [(0, .ref (zA G 45)), (1, .int (iI p0)), (2, .int (iI p1)), (3, .int (iI p2)), (4, .int (iI p3)), (5, .int (iI p4))] [0, 1, 2, 3, 4, 5] rfl ?_
        exact HJ80 h
      · have h := h.2 hb81
        refine z_iload_n C 3 d_m_divide_13 rfl ?_
        refine z_callS C [.int (iI p2)] [.ref (zA G 45)] 1 d_m_divide_14 (c_m_isRegister (zl E) G h h_p2) k_519 k_517 k_518 k_3 (by decide)  (by decide +kernel) rfl rfl (Nat.le_of_ble_eq_true rfl) hroom_m_isRegister (fun r82 _s94 ok83 hq => ?_) (fun _ _ hx => hx.elim)
        obtain ⟨hs_, hk_⟩ := hq
        subst hs_
        have h := hk_
        refine z_if_eq C d_m_divide_17 (okI_b ok83) (fun hb84 => ?_) (fun hb84 => ?_)
        · have h := h.1 hb84
          refine z_sub [(0, .ref (zA G 45)), (1, .int (iI p0)), (2, .int (iI p1)), (3, .int (iI p2)), (4, .int (iI p3)), (5, .int (iI p4))] [0, 1, 2, 3, 4, 5] rfl ?_
          exact HJ80 h
        · have h := h.2 hb84
          refine z_iload C 4 d_m_divide_20 rfl ?_
          refine z_callS C [.int (iI p3)] [.ref (zA G 45)] 1 d_m_divide_22 (c_m_isRegister (zl E) G h h_p3) k_519 k_517 k_518 k_3 (by decide)  (by decide +kernel) rfl rfl (Nat.le_of_ble_eq_true rfl) hroom_m_isRegister (fun r85 _s93 ok86 hq => ?_) (fun _ _ hx => hx.elim)
          obtain ⟨hs_, hk_⟩ := hq
          subst hs_
          have h := hk_
          refine z_if_eq C d_m_divide_25 (okI_b ok86) (fun hb87 => ?_) (fun hb87 => ?_)
          · have h := h.1 hb87
            refine z_sub [(0, .ref (zA G 45)), (1, .int (iI p0)), (2, .int (iI p1)), (3, .int (iI p2)), (4, .int (iI p3)), (5, .int (iI p4))] [0, 1, 2, 3, 4, 5] rfl ?_
            exact HJ80 h
          · have h := h.2 hb87
            refine z_iload C 5 d_m_divide_28 rfl ?_
            refine z_callS C [.int (iI p4)] [.ref (zA G 45)] 1 d_m_divide_30 (c_m_isRegister (zl E) G h h_p4) k_519 k_517 k_518 k_3 (by decide)  (by decide +kernel) rfl rfl (Nat.le_of_ble_eq_true rfl) hroom_m_isRegister (fun r88 _s92 ok89 hq => ?_) (fun _ _ hx => hx.elim)
            obtain ⟨hs_, hk_⟩ := hq
            subst hs_
            have h := hk_
            refine z_if_eq C d_m_divide_33 (okI_b ok89) (fun hb90 => ?_) (fun hb90 => ?_)
            · have h := h.1 hb90
              refine z_sub [(0, .ref (zA G 45)), (1, .int (iI p0)), (2, .int (iI p1)), (3, .int (iI p2)), (4, .int (iI p3)), (5, .int (iI p4))] [0, 1, 2, 3, 4, 5] rfl ?_
              exact HJ80 h
            · have h := h.2 hb90
              refine z_iload_n C 2 d_m_divide_36 rfl ?_
              refine z_iload_n C 3 d_m_divide_37 rfl ?_
              refine z_icmp_ne C d_m_divide_38 h_p1 h_p2 (fun hb91 => ?_) (fun hb91 => ?_)
              · have h := h.1 hb91
                refine z_iconst C d_m_divide_45 ?_
                refine z_sub [(0, .ref (zA G 45)), (1, .int (iI p0)), (2, .int (iI p1)), (3, .int (iI p2)), (4, .int (iI p3)), (5, .int (iI p4))] [0, 1, 2, 3, 4, 5] rfl ?_
                exact HJ5 _ h (okI_lit rfl)
              · have h := h.2 hb91
                refine z_sub [(0, .ref (zA G 45)), (1, .int (iI p0)), (2, .int (iI p1)), (3, .int (iI p2)), (4, .int (iI p3)), (5, .int (iI p4))] [0, 1, 2, 3, 4, 5] rfl ?_
                exact HJ80 h
theorem d_m_shift_0 : DD b_m_shift 0 (.aload_n 0) 1 1 := ⟨by decide +kernel, rfl⟩
theorem d_m_shift_1 : DD b_m_shift 1 (.iconst 0) 1 2 := ⟨by decide +kernel, rfl⟩
theorem d_m_shift_2 : DD b_m_shift 2 (.putfield 49) 3 5 := ⟨by decide +kernel, rfl⟩
theorem d_m_shift_5 : DD b_m_shift 5 (.aload_n 0) 1 6 := ⟨by decide +kernel, rfl⟩
theorem d_m_shift_6 : DD b_m_shift 6 (.iload_n 1) 1 7 := ⟨by decide +kernel, rfl⟩
theorem d_m_shift_7 : DD b_m_shift 7 (.invokestatic 83) 3 10 := ⟨by decide +kernel, rfl⟩
theorem d_m_shift_10 : DB b_m_shift 10 (.ifCond .eq 23) 23 13 33 := ⟨by decide +kernel, rfl, rfl⟩
theorem d_m_shift_13 : DD b_m_shift 13 (.iload_n 2) 1 14 := ⟨by decide +kernel, rfl⟩
theorem d_m_shift_14 : DD b_m_shift 14 (.invokestatic 83) 3 17 := ⟨by decide +kernel, rfl⟩
theorem d_m_shift_17 : DB b_m_shift 17 (.ifCond .eq 16) 16 20 33 := ⟨by decide +kernel, rfl, rfl⟩
theorem d_m_shift_20 : DD b_m_shift 20 (.iload_n 3) 1 21 := ⟨by decide +kernel, rfl⟩
theorem d_m_shift_21 : DD b_m_shift 21 (.sipush (-4000)) 3 24 := ⟨by decide +kernel, rfl⟩
theorem d_m_shift_24 : DD b_m_shift 24 (.sipush 4000) 3 27 := ⟨by decide +kernel, rfl⟩
theorem d_m_shift_27 : DD b_m_shift 27 (.invokestatic 68) 3 30 := ⟨by decide +kernel, rfl⟩
theorem d_m_shift_30 : DB b_m_shift 30 (.ifCond .ne 7) 7 33 37 := ⟨by decide +kernel, rfl, rfl⟩
theorem d_m_shift_33 : DD b_m_shift 33 (.iconst 1) 1 34 := ⟨by decide +kernel, rfl⟩
theorem d_m_shift_34 : DB b_m_shift 34 (.goto 4) 4 37 38 := ⟨by decide +kernel, rfl, rfl⟩
theorem d_m_shift_37 : DD b_m_shift 37 (.iconst 0) 1 38 := ⟨by decide +kernel, rfl⟩
theorem d_m_shift_38 : DD b_m_shift 38 (.iconst 1) 1 39 := ⟨by decide +kernel, rfl⟩
theorem d_m_shift_39 : DD b_m_shift 39 (.invokevirtual 79) 3 42 := ⟨by decide +kernel, rfl⟩
theorem d_m_shift_42 : DB b_m_shift 42 (.ifCond .eq 5) 5 45 47 := ⟨by decide +kernel, rfl, rfl⟩
theorem d_m_shift_45 : DD b_m_shift 45 (.iconst 0) 1 46 := ⟨by decide +kernel, rfl⟩
theorem d_m_shift_46 : DD b_m_shift 46 .ireturn 1 47 := ⟨by decide +kernel, rfl⟩
theorem d_m_shift_47 : DD b_m_shift 47 (.aload_n 0) 1 48 := ⟨by decide +kernel, rfl⟩
theorem d_m_shift_48 : DD b_m_shift 48 (.iload_n 2) 1 49 := ⟨by decide +kernel, rfl⟩
theorem d_m_shift_49 : DD b_m_shift 49 (.aload_n 0) 1 50 := ⟨by decide +kernel, rfl⟩
theorem d_m_shift_50 : DD b_m_shift 50 (.getfield 22) 3 53 := ⟨by decide +kernel, rfl⟩
theorem d_m_shift_53 : DD b_m_shift 53 (.invokevirtual 72) 3 56 := ⟨by decide +kernel, rfl⟩
theorem d_m_shift_56 : DD b_m_shift 56 (.istore 4) 2 58 := ⟨by decide +kernel, rfl⟩
theorem d_m_shift_58 : DD b_m_shift 58 (.iload_n 3) 1 59 := ⟨by decide +kernel, rfl⟩
theorem d_m_shift_59 : DB b_m_shift 59 (.ifCond .lt 46) 46 62 105 := ⟨by decide +kernel, rfl, rfl⟩
theorem d_m_shift_62 : DD b_m_shift 62 (.aload_n 0) 1 63 := ⟨by decide +kernel, rfl⟩
theorem d_m_shift_63 : DD b_m_shift 63 (.iload_n 1) 1 64 := ⟨by decide +kernel, rfl⟩
theorem d_m_shift_64 : DD b_m_shift 64 (.aload_n 0) 1 65 := ⟨by decide +kernel, rfl⟩
theorem d_m_shift_65 : DD b_m_shift 65 (.getfield 16) 3 68 := ⟨by decide +kernel, rfl⟩
theorem d_m_shift_68 : DD b_m_shift 68 (.iload_n 2) 1 69 := ⟨by decide +kernel, rfl⟩
theorem d_m_shift_69 : DD b_m_shift 69 .iaload 1 70 := ⟨by decide +kernel, rfl⟩
theorem d_m_shift_70 : DD b_m_shift 70 (.aload_n 0) 1 71 := ⟨by decide +kernel, rfl⟩
theorem d_m_shift_71 : DD b_m_shift 71 (.getfield 28) 3 74 := ⟨by decide +kernel, rfl⟩
theorem d_m_shift_74 : DD b_m_shift 74 (.aload_n 0) 1 75 := ⟨by decide +kernel, rfl⟩
theorem d_m_shift_75 : DD b_m_shift 75 (.getfield 22) 3 78 := ⟨by decide +kernel, rfl⟩
theorem d_m_shift_78 : DD b_m_shift 78 (.iload 4) 2 80 := ⟨by decide +kernel, rfl⟩
theorem d_m_shift_80 : DD b_m_shift 80 (.iload_n 3) 1 81 := ⟨by decide +kernel, rfl⟩
theorem d_m_shift_81 : DD b_m_shift 81 (.aload_n 0) 1 82 := ⟨by decide +kernel, rfl⟩
theorem d_m_shift_82 : DD b_m_shift 82 (.getfield 28) 3 85 := ⟨by decide +kernel, rfl⟩
theorem d_m_shift_85 : DD b_m_shift 85 (.invokestatic 120) 3 88 := ⟨by decide +kernel, rfl⟩
theorem d_m_shift_88 : DD b_m_shift 88 (.iconst 2) 1 89 := ⟨by decide +kernel, rfl⟩
theorem d_m_shift_89 : DD b_m_shift 89 (.invokevirtual 91) 3 92 := ⟨by decide +kernel, rfl⟩
theorem d_m_shift_92 : DB b_m_shift 92 (.ifCond .eq 11) 11 95 103 := ⟨by decide +kernel, rfl, rfl⟩
theorem d_m_shift_95 : DD b_m_shift 95 (.aload_n 0) 1 96 := ⟨by decide +kernel, rfl⟩
theorem d_m_shift_96 : DD b_m_shift 96 (.iload_n 1) 1 97 := ⟨by decide +kernel, rfl⟩
theorem d_m_shift_97 : DD b_m_shift 97 (.invokevirtual 87) 3 100 := ⟨by decide +kernel, rfl⟩
theorem d_m_shift_100 : DB b_m_shift 100 (.goto 4) 4 103 104 := ⟨by decide +kernel, rfl, rfl⟩
theorem d_m_shift_103 : DD b_m_shift 103 (.iconst 0) 1 104 := ⟨by decide +kernel, rfl⟩
theorem d_m_shift_104 : DD b_m_shift 104 .ireturn 1 105 := ⟨by decide +kernel, rfl⟩
theorem d_m_shift_105 : DD b_m_shift 105 (.iconst 0) 1 106 := ⟨by decide +kernel, rfl⟩
theorem d_m_shift_106 : DD b_m_shift 106 (.istore 5) 2 108 := ⟨by decide +kernel, rfl⟩
theorem d_m_shift_108 : DD b_m_shift 108 (.iconst 0) 1 109 := ⟨by decide +kernel, rfl⟩
theorem d_m_shift_109 : DD b_m_shift 109 (.istore 6) 2 111 := ⟨by decide +kernel, rfl⟩
theorem d_m_shift_111 : DD b_m_shift 111 (.iconst 0) 1 112 := ⟨by decide +kernel, rfl⟩
theorem d_m_shift_112 : DD b_m_shift 112 (.istore 7) 2 114 := ⟨by decide +kernel, rfl⟩
theorem d_m_shift_114 : DD b_m_shift 114 (.iload 7) 2 116 := ⟨by decide +kernel, rfl⟩
theorem d_m_shift_116 : DD b_m_shift 116 (.iload_n 3) 1 117 := ⟨by decide +kernel, rfl⟩
theorem d_m_shift_117 : DD b_m_shift 117 .ineg 1 118 := ⟨by decide +kernel, rfl⟩
theorem d_m_shift_118 : DB b_m_shift 118 (.if_icmp .ge 25) 25 121 143 := ⟨by decide +kernel, rfl, rfl⟩
theorem d_m_shift_121 : DD b_m_shift 121 (.iload 6) 2 123 := ⟨by decide +kernel, rfl⟩
theorem d_m_shift_123 : DD b_m_shift 123 (.aload_n 0) 1 124 := ⟨by decide +kernel, rfl⟩
theorem d_m_shift_124 : DD b_m_shift 124 (.getfield 22) 3 127 := ⟨by decide +kernel, rfl⟩
theorem d_m_shift_127 : DD b_m_shift 127 (.iload 4) 2 129 := ⟨by decide +kernel, rfl⟩
theorem d_m_shift_129 : DD b_m_shift 129 (.iload 7) 2 131 := ⟨by decide +kernel, rfl⟩
theorem d_m_shift_131 : DD b_m_shift 131 (.invokestatic 124) 3 134 := ⟨by decide +kernel, rfl⟩
theorem d_m_shift_134 : DD b_m_shift 134 .ior 1 135 := ⟨by decide +kernel, rfl⟩
theorem d_m_shift_135 : DD b_m_shift 135 (.istore 6) 2 137 := ⟨by decide +kernel, rfl⟩
theorem d_m_shift_137 : DD b_m_shift 137 (.iinc 7 1) 3 140 := ⟨by decide +kernel, rfl⟩
theorem d_m_shift_140 : DB b_m_shift 140 (.goto (-26)) (-26) 143 114 := ⟨by decide +kernel, rfl, rfl⟩
theorem d_m_shift_143 : DD b_m_shift 143 (.iconst 0) 1 144 := ⟨by decide +kernel, rfl⟩
theorem d_m_shift_144 : DD b_m_shift 144 (.istore 7) 2 146 := ⟨by decide +kernel, rfl⟩
theorem d_m_shift_146 : DD b_m_shift 146 (.bipush 16) 2 148 := ⟨by decide +kernel, rfl⟩
theorem d_m_shift_148 : DD b_m_shift 148 (.iload 7) 2 150 := ⟨by decide +kernel, rfl⟩
theorem d_m_shift_150 : DD b_m_shift 150 .imul 1 151 := ⟨by decide +kernel, rfl⟩
theorem d_m_shift_151 : DD b_m_shift 151 (.bipush 16) 2 153 := ⟨by decide +kernel, rfl⟩
theorem d_m_shift_153 : DD b_m_shift 153 (.iload 4) 2 155 := ⟨by decide +kernel, rfl⟩
theorem d_m_shift_155 : DD b_m_shift 155 .imul 1 156 := ⟨by decide +kernel, rfl⟩
theorem d_m_shift_156 : DD b_m_shift 156 (.iload_n 3) 1 157 := ⟨by decide +kernel, rfl⟩
theorem d_m_shift_157 : DD b_m_shift 157 .iadd 1 158 := ⟨by decide +kernel, rfl⟩
theorem d_m_shift_158 : DB b_m_shift 158 (.if_icmp .ge 71) 71 161 229 := ⟨by decide +kernel, rfl, rfl⟩
theorem d_m_shift_161 : DD b_m_shift 161 (.iconst 0) 1 162 := ⟨by decide +kernel, rfl⟩
theorem d_m_shift_162 : DD b_m_shift 162 (.istore 8) 2 164 := ⟨by decide +kernel, rfl⟩
theorem d_m_shift_164 : DD b_m_shift 164 (.iconst 0) 1 165 := ⟨by decide +kernel, rfl⟩
theorem d_m_shift_165 : DD b_m_shift 165 (.istore 9) 2 167 := ⟨by decide +kernel, rfl⟩
theorem d_m_shift_167 : DD b_m_shift 167 (.iload 9) 2 169 := ⟨by decide +kernel, rfl⟩
theorem d_m_shift_169 : DD b_m_shift 169 (.bipush 16) 2 171 := ⟨by decide +kernel, rfl⟩
theorem d_m_shift_171 : DB b_m_shift 171 (.if_icmp .ge 40) 40 174 211 := ⟨by decide +kernel, rfl, rfl⟩
theorem d_m_shift_174 : DD b_m_shift 174 (.aload_n 0) 1 175 := ⟨by decide +kernel, rfl⟩
theorem d_m_shift_175 : DD b_m_shift 175 (.getfield 22) 3 178 := ⟨by decide +kernel, rfl⟩
theorem d_m_shift_178 : DD b_m_shift 178 (.iload 4) 2 180 := ⟨by decide +kernel, rfl⟩
theorem d_m_shift_180 : DD b_m_shift 180 (.bipush 16) 2 182 := ⟨by decide +kernel, rfl⟩
theorem d_m_shift_182 : DD b_m_shift 182 (.iload 7) 2 184 := ⟨by decide +kernel, rfl⟩
theorem d_m_shift_184 : DD b_m_shift 184 .imul 1 185 := ⟨by decide +kernel, rfl⟩
theorem d_m_shift_185 : DD b_m_shift 185 (.iload 9) 2 187 := ⟨by decide +kernel, rfl⟩
theorem d_m_shift_187 : DD b_m_shift 187 .iadd 1 188 := ⟨by decide +kernel, rfl⟩
theorem d_m_shift_188 : DD b_m_shift 188 (.iload_n 3) 1 189 := ⟨by decide +kernel, rfl⟩
theorem d_m_shift_189 : DD b_m_shift 189 .isub 1 190 := ⟨by decide +kernel, rfl⟩
theorem d_m_shift_190 : DD b_m_shift 190 (.invokestatic 124) 3 193 := ⟨by decide +kernel, rfl⟩
theorem d_m_shift_193 : DB b_m_shift 193 (.ifCond .eq 12) 12 196 205 := ⟨by decide +kernel, rfl, rfl⟩
theorem d_m_shift_196 : DD b_m_shift 196 (.iload 8) 2 198 := ⟨by decide +kernel, rfl⟩
theorem d_m_shift_198 : DD b_m_shift 198 (.iconst 1) 1 199 := ⟨by decide +kernel, rfl⟩
theorem d_m_shift_199 : DD b_m_shift 199 (.iload 9) 2 201 := ⟨by decide +kernel, rfl⟩
theorem d_m_shift_201 : DD b_m_shift 201 .ishl 1 202 := ⟨by decide +kernel, rfl⟩
theorem d_m_shift_202 : DD b_m_shift 202 .ior 1 203 := ⟨by decide +kernel, rfl⟩
theorem d_m_shift_203 : DD b_m_shift 203 (.istore 8) 2 205 := ⟨by decide +kernel, rfl⟩
theorem d_m_shift_205 : DD b_m_shift 205 (.iinc 9 1) 3 208 := ⟨by decide +kernel, rfl⟩
theorem d_m_shift_208 : DB b_m_shift 208 (.goto (-41)) (-41) 211 167 := ⟨by decide +kernel, rfl, rfl⟩
theorem d_m_shift_211 : DD b_m_shift 211 (.aload_n 0) 1 212 := ⟨by decide +kernel, rfl⟩
theorem d_m_shift_212 : DD b_m_shift 212 (.getfield 28) 3 215 := ⟨by decide +kernel, rfl⟩
theorem d_m_shift_215 : DD b_m_shift 215 (.iload 5) 2 217 := ⟨by decide +kernel, rfl⟩
theorem d_m_shift_217 : DD b_m_shift 217 (.iinc 5 1) 3 220 := ⟨by decide +kernel, rfl⟩
theorem d_m_shift_220 : DD b_m_shift 220 (.iload 8) 2 222 := ⟨by decide +kernel, rfl⟩
theorem d_m_shift_222 : DD b_m_shift 222 .iastore 1 223 := ⟨by decide +kernel, rfl⟩
theorem d_m_shift_223 : DD b_m_shift 223 (.iinc 7 1) 3 226 := ⟨by decide +kernel, rfl⟩
theorem d_m_shift_226 : DB b_m_shift 226 (.goto (-80)) (-80) 229 146 := ⟨by decide +kernel, rfl, rfl⟩
theorem d_m_shift_229 : DD b_m_shift 229 (.aload_n 0) 1 230 := ⟨by decide +kernel, rfl⟩
theorem d_m_shift_230 : DD b_m_shift 230 (.getfield 28) 3 233 := ⟨by decide +kernel, rfl⟩
theorem d_m_shift_233 : DD b_m_shift 233 (.iload 5) 2 235 := ⟨by decide +kernel, rfl⟩
theorem d_m_shift_235 : DD b_m_shift 235 (.invokestatic 54) 3 238 := ⟨by decide +kernel, rfl⟩
theorem d_m_shift_238 : DD b_m_shift 238 (.istore 5) 2 240 := ⟨by decide +kernel, rfl⟩
theorem d_m_shift_240 : DD b_m_shift 240 (.iload 6) 2 242 := ⟨by decide +kernel, rfl⟩
theorem d_m_shift_242 : DB b_m_shift 242 (.ifCond .eq 39) 39 245 281 := ⟨by decide +kernel, rfl, rfl⟩
theorem d_m_shift_245 : DD b_m_shift 245 (.aload_n 0) 1 246 := ⟨by decide +kernel, rfl⟩
theorem d_m_shift_246 : DD b_m_shift 246 (.getfield 16) 3 249 := ⟨by decide +kernel, rfl⟩
theorem d_m_shift_249 : DD b_m_shift 249 (.iload_n 2) 1 250 := ⟨by decide +kernel, rfl⟩
theorem d_m_shift_250 : DD b_m_shift 250 .iaload 1 251 := ⟨by decide +kernel, rfl⟩
theorem d_m_shift_251 : DB b_m_shift 251 (.ifCond .ge 30) 30 254 281 := ⟨by decide +kernel, rfl, rfl⟩
theorem d_m_shift_254 : DD b_m_shift 254 (.aload_n 0) 1 255 := ⟨by decide +kernel, rfl⟩
theorem d_m_shift_255 : DD b_m_shift 255 (.getfield 31) 3 258 := ⟨by decide +kernel, rfl⟩
theorem d_m_shift_258 : DD b_m_shift 258 (.iconst 0) 1 259 := ⟨by decide +kernel, rfl⟩
theorem d_m_shift_259 : DD b_m_shift 259 (.iconst 1) 1 260 := ⟨by decide +kernel, rfl⟩
theorem d_m_shift_260 : DD b_m_shift 260 .iastore 1 261 := ⟨by decide +kernel, rfl⟩
theorem d_m_shift_261 : DD b_m_shift 261 (.aload_n 0) 1 262 := ⟨by decide +kernel, rfl⟩
theorem d_m_shift_262 : DD b_m_shift 262 (.getfield 28) 3 265 := ⟨by decide +kernel, rfl⟩
theorem d_m_shift_265 : DD b_m_shift 265 (.iload 5) 2 267 := ⟨by decide +kernel, rfl⟩
theorem d_m_shift_267 : DD b_m_shift 267 (.aload_n 0) 1 268 := ⟨by decide +kernel, rfl⟩
theorem d_m_shift_268 : DD b_m_shift 268 (.getfield 31) 3 271 := ⟨by decide +kernel, rfl⟩
theorem d_m_shift_271 : DD b_m_shift 271 (.iconst 1) 1 272 := ⟨by decide +kernel, rfl⟩
theorem d_m_shift_272 : DD b_m_shift 272 (.aload_n 0) 1 273 := ⟨by decide +kernel, rfl⟩
theorem d_m_shift_273 : DD b_m_shift 273 (.getfield 28) 3 276 := ⟨by decide +kernel, rfl⟩
theorem d_m_shift_276 : DD b_m_shift 276 (.invokestatic 111) 3 279 := ⟨by decide +kernel, rfl⟩
theorem d_m_shift_279 : DD b_m_shift 279 (.istore 5) 2 281 := ⟨by decide +kernel, rfl⟩
theorem d_m_shift_281 : DD b_m_shift 281 (.aload_n 0) 1 282 := ⟨by decide +kernel, rfl⟩
theorem d_m_shift_282 : DD b_m_shift 282 (.iload_n 1) 1 283 := ⟨by decide +kernel, rfl⟩
theorem d_m_shift_283 : DD b_m_shift 283 (.aload_n 0) 1 284 := ⟨by decide +kernel, rfl⟩
theorem d_m_shift_284 : DD b_m_shift 284 (.getfield 16) 3 287 := ⟨by decide +kernel, rfl⟩
theorem d_m_shift_287 : DD b_m_shift 287 (.iload_n 2) 1 288 := ⟨by decide +kernel, rfl⟩
theorem d_m_shift_288 : DD b_m_shift 288 .iaload 1 289 := ⟨by decide +kernel, rfl⟩
theorem d_m_shift_289 : DD b_m_shift 289 (.aload_n 0) 1 290 := ⟨by decide +kernel, rfl⟩
theorem d_m_shift_290 : DD b_m_shift 290 (.getfield 28) 3 293 := ⟨by decide +kernel, rfl⟩
theorem d_m_shift_293 : DD b_m_shift 293 (.iload 5) 2 295 := ⟨by decide +kernel, rfl⟩
theorem d_m_shift_295 : DD b_m_shift 295 (.iconst 2) 1 296 := ⟨by decide +kernel, rfl⟩
theorem d_m_shift_296 : DD b_m_shift 296 (.invokevirtual 91) 3 299 := ⟨by decide +kernel, rfl⟩
theorem d_m_shift_299 : DD b_m_shift 299 .pop 1 300 := ⟨by decide +kernel, rfl⟩
theorem d_m_shift_300 : DD b_m_shift 300 (.aload_n 0) 1 301 := ⟨by decide +kernel, rfl⟩
theorem d_m_shift_301 : DD b_m_shift 301 (.iload_n 1) 1 302 := ⟨by decide +kernel, rfl⟩
theorem d_m_shift_302 : DD b_m_shift 302 (.invokevirtual 87) 3 305 := ⟨by decide +kernel, rfl⟩
theorem d_m_shift_305 : DD b_m_shift 305 .ireturn 1 306 := ⟨by decide +kernel, rfl⟩
set_option maxRecDepth 20000 in
set_option maxHeartbeats 4000000 in
theorem c_m_shift (l : Launch) (G : ZG) {p0 p1 p2 : Int} {σ : Mem} {K : Int → Mem → Prop} (h : wp_m_shift p0 p1 p2 σ K) (h_p0 : okI p0) (h_p1 : okI p1) (h_p2 : okI p2) : Ct l G y_m_shift (.code y_m_shift b_m_shift 10 (some .int)) { frames := 2, cells := 0, slots := 0, locals := 50 } 0 0 1 [.ref (zA G 45), .int (iI p0), .int (iI p1), .int (iI p2)] σ K (fun _ _ => False) := by
  unfold wp_m_shift at h
  refine Ct.ofZ [(0, .ref (zA G 45)), (1, .int (iI p0)), (2, .int (iI p1)), (3, .int (iI p2))] "LimbDeskModel" (by decide) rfl (Nat.le_of_ble_eq_true rfl) rfl ?_
  intro E hR hlE C hr hX
  subst hlE
  have hroom_m_fails : 0 + 1 ≤ (zR E).frames ∧ 8 + (3 + 11) + 0 ≤ (zR E).locals ∧ 0 + 0 ≤ (zR E).cells ∧ 0 + 0 ≤ (zR E).slots := by rw [hR]; decide
  have hroom_m_in : 0 + 1 ≤ (zR E).frames ∧ 8 + (3 + 11) + 0 ≤ (zR E).locals ∧ 0 + 0 ≤ (zR E).cells ∧ 0 + 0 ≤ (zR E).slots := by rw [hR]; decide
  have hroom_m_isBit : 0 + 1 ≤ (zR E).frames ∧ 8 + (3 + 11) + 0 ≤ (zR E).locals ∧ 0 + 0 ≤ (zR E).cells ∧ 0 + 0 ≤ (zR E).slots := by rw [hR]; decide
  have hroom_m_isRegister : 1 + 1 ≤ (zR E).frames ∧ 8 + (1 + 11) + 22 ≤ (zR E).locals ∧ 0 + 0 ≤ (zR E).cells ∧ 0 + 0 ≤ (zR E).slots := by rw [hR]; decide
  have hroom_m_keep : 1 + 1 ≤ (zR E).frames ∧ 8 + (8 + 11) + 23 ≤ (zR E).locals ∧ 0 + 0 ≤ (zR E).cells ∧ 0 + 0 ≤ (zR E).slots := by rw [hR]; decide
  have hroom_m_load : 0 + 1 ≤ (zR E).frames ∧ 8 + (4 + 11) + 0 ≤ (zR E).locals ∧ 0 + 0 ≤ (zR E).cells ∧ 0 + 0 ≤ (zR E).slots := by rw [hR]; decide
  have hroom_m_plus : 1 + 1 ≤ (zR E).frames ∧ 8 + (8 + 11) + 22 ≤ (zR E).locals ∧ 0 + 0 ≤ (zR E).cells ∧ 0 + 0 ≤ (zR E).slots := by rw [hR]; decide
  have hroom_m_shiftedLeft : 1 + 1 ≤ (zR E).frames ∧ 8 + (7 + 11) + 22 ≤ (zR E).locals ∧ 0 + 0 ≤ (zR E).cells ∧ 0 + 0 ≤ (zR E).slots := by rw [hR]; decide
  have hroom_m_size0 : 1 + 1 ≤ (zR E).frames ∧ 8 + (3 + 11) + 23 ≤ (zR E).locals ∧ 0 + 0 ≤ (zR E).cells ∧ 0 + 0 ≤ (zR E).slots := by rw [hR]; decide
  have hroom_m_trim : 0 + 1 ≤ (zR E).frames ∧ 8 + (3 + 11) + 0 ≤ (zR E).locals ∧ 0 + 0 ≤ (zR E).cells ∧ 0 + 0 ≤ (zR E).slots := by rw [hR]; decide
  clear hR
  obtain ⟨Q, hQ⟩ : ∃ Q, Q = MQX G (zb E) 1 K (fun _ _ => False) (zs E) 0 0 0 0 := ⟨_, rfl⟩
  show Z E G 10 0 0 (MQX G (zb E) 1 K (fun _ _ => False) (zs E) 0 0 0 0) σ 0 [(0, .ref (zA G 45)), (1, .int (iI p0)), (2, .int (iI p1)), (3, .int (iI p2))] []
  rw [← hQ]
  refine z_aload_n C 0 d_m_shift_0 rfl ?_
  refine z_iconst C d_m_shift_1 ?_
  refine z_mput_err C d_m_shift_2 k_460 ?_
  refine z_aload_n C 0 d_m_shift_5 rfl ?_
  refine z_iload_n C 1 d_m_shift_6 rfl ?_
  refine z_callS C [.int (iI p0)] [.ref (zA G 45)] 1 d_m_shift_7 (c_m_isRegister (zl E) G h h_p0) k_519 k_517 k_518 k_3 (by decide)  (by decide +kernel) rfl rfl (Nat.le_of_ble_eq_true rfl) hroom_m_isRegister (fun r1 _s103 ok2 hq => ?_) (fun _ _ hx => hx.elim)
  obtain ⟨hs_, hk_⟩ := hq
  subst hs_
  have h := hk_
  refine Jq1.walk (fun s3 => okI s3 → Z E G 10 0 0 Q (mS σ 45 0 0) 38 [(0, .ref (zA G 45)), (1, .int (iI p0)), (2, .int (iI p1)), (3, .int (iI p2))] [.int (iI s3), .ref (zA G 45)]) h ?_ ?_
  · intro s3 h ok4
    refine z_iconst C d_m_shift_38 ?_
    refine z_callV C "LimbDeskModel" [.int (iI s3), .int (iI 1)] [] 2 d_m_shift_39 (c_m_fails (zl E) G h ok4 (okI_lit rfl)) k_526 k_523 k_525 k_s6 k_3 (by decide) (recv_M C) (by decide +kernel) rfl rfl (Nat.le_of_ble_eq_true rfl) hroom_m_fails (fun r6 σ7 ok8 hq => ?_) (fun _ _ hx => hx.elim)
    have h := hq
    refine z_if_eq C d_m_shift_42 (okI_b ok8) (fun hb9 => ?_) (fun hb9 => ?_)
    · have h := h.1 hb9
      refine z_aload_n C 0 d_m_shift_47 rfl ?_
      refine z_iload_n C 2 d_m_shift_48 rfl ?_
      refine z_aload_n C 0 d_m_shift_49 rfl ?_
      refine z_mget C 6 d_m_shift_50 (by decide) k_466 rfl rfl ?_
      refine z_callV C "LimbDeskModel" [.int (iI p1), .ref (zA G 50)] [] 2 d_m_shift_53 (c_m_load (zl E) G h h_p1 (Or.inr ⟨by decide, by decide⟩)) k_534 k_531 k_533 k_s8 k_3 (by decide) (recv_M C) (by decide +kernel) rfl rfl (Nat.le_of_ble_eq_true rfl) hroom_m_load (fun r10 σ11 ok12 hq => ?_) (fun _ _ hx => hx.elim)
      have h := hq
      refine z_istore C [(4, .int (iI r10)), (0, .ref (zA G 45)), (1, .int (iI p0)), (2, .int (iI p1)), (3, .int (iI p2))] d_m_shift_56 (by decide) rfl ?_
      refine z_iload_n C 4 d_m_shift_58 rfl ?_
      refine z_if_lt C d_m_shift_59 h_p2 (fun hb13 => ?_) (fun hb13 => ?_)
      · have h := h.1 hb13
        refine z_iconst C d_m_shift_105 ?_
        refine z_istore C [(5, .int (iI 0)), (4, .int (iI r10)), (0, .ref (zA G 45)), (1, .int (iI p0)), (2, .int (iI p1)), (3, .int (iI p2))] d_m_shift_106 (by decide) rfl ?_
        refine z_iconst C d_m_shift_108 ?_
        refine z_istore C [(6, .int (iI 0)), (5, .int (iI 0)), (4, .int (iI r10)), (0, .ref (zA G 45)), (1, .int (iI p0)), (2, .int (iI p1)), (3, .int (iI p2))] d_m_shift_109 (by decide) rfl ?_
        refine z_iconst C d_m_shift_111 ?_
        refine z_istore C [(7, .int (iI 0)), (6, .int (iI 0)), (5, .int (iI 0)), (4, .int (iI r10)), (0, .ref (zA G 45)), (1, .int (iI p0)), (2, .int (iI p1)), (3, .int (iI p2))] d_m_shift_112 (by decide) rfl ?_
        refine z_sub [(0, .ref (zA G 45)), (1, .int (iI p0)), (2, .int (iI p1)), (3, .int (iI p2)), (4, .int (iI r10)), (5, .int (iI 0)), (6, .int (iI 0)), (7, .int (iI 0))] [4, 5, 6, 7, 3, 2, 1, 0] rfl ?_
        refine (Lq2.walk (P := fun v6_14 v7_15 => okI v6_14 → okI v7_15 → Z E G 10 0 0 Q σ11 114 [(0, .ref (zA G 45)), (1, .int (iI p0)), (2, .int (iI p1)), (3, .int (iI p2)), (4, .int (iI r10)), (5, .int (iI 0)), (6, .int (iI v6_14)), (7, .int (iI v7_15))] []) ?_ h) (okI_lit rfl) (okI_lit rfl)
        intro v6_14 v7_15 again18 Hagain18 h ok16 ok17
        refine z_iload C 7 d_m_shift_114 rfl ?_
        refine z_iload_n C 3 d_m_shift_116 rfl ?_
        refine z_ineg C d_m_shift_117 ?_
        obtain ⟨ok19, h⟩ := h
        refine z_icmp_ge C d_m_shift_118 ok17 ok19 (fun hb20 => ?_) (fun hb20 => ?_)
        · have h := h.1 hb20
          refine z_iconst C d_m_shift_143 ?_
          refine z_istore C [(7, .int (iI 0)), (0, .ref (zA G 45)), (1, .int (iI p0)), (2, .int (iI p1)), (3, .int (iI p2)), (4, .int (iI r10)), (5, .int (iI 0)), (6, .int (iI v6_14))] d_m_shift_144 (by decide) rfl ?_
          refine z_sub [(0, .ref (zA G 45)), (1, .int (iI p0)), (2, .int (iI p1)), (3, .int (iI p2)), (4, .int (iI r10)), (5, .int (iI 0)), (6, .int (iI v6_14)), (7, .int (iI 0))] [1, 2, 3, 4, 5, 6, 7, 0] rfl ?_
          refine (Lo2.walk (P := fun v5_21 v7_22 σ23 => okI v5_21 → okI v7_22 → Z E G 10 0 0 Q σ23 146 [(0, .ref (zA G 45)), (1, .int (iI p0)), (2, .int (iI p1)), (3, .int (iI p2)), (4, .int (iI r10)), (5, .int (iI v5_21)), (6, .int (iI v6_14)), (7, .int (iI v7_22))] []) ?_ h) (okI_lit rfl) (okI_lit rfl)
          intro v5_21 v7_22 σ23 again26 Hagain26 h ok24 ok25
          refine z_bipush C d_m_shift_146 (by decide) ?_
          refine z_iload C 7 d_m_shift_148 rfl ?_
          refine z_imul C d_m_shift_150 ?_
          refine z_bipush C d_m_shift_151 (by decide) ?_
          refine z_iload C 4 d_m_shift_153 rfl ?_
          refine z_imul C d_m_shift_155 ?_
          refine z_iload_n C 3 d_m_shift_156 rfl ?_
          refine z_iadd C d_m_shift_157 ?_
          obtain ⟨ok27, h⟩ := h
          obtain ⟨ok28, h⟩ := h
          refine z_icmp_ge C d_m_shift_158 ok27 ok28 (fun hb29 => ?_) (fun hb29 => ?_)
          · have h := h.1 hb29
            refine z_aload_n C 0 d_m_shift_229 rfl ?_
            refine z_mget C 8 d_m_shift_230 (by decide) k_468 rfl rfl ?_
            refine z_iload C 5 d_m_shift_233 rfl ?_
            refine z_callS C [.ref (zA G 52), .int (iI v5_21)] [] 2 d_m_shift_235 (c_m_trim (zl E) G h (Or.inr ⟨by decide, by decide⟩) ok24) k_545 k_543 k_544 k_3 (by decide)  (by decide +kernel) rfl rfl (Nat.le_of_ble_eq_true rfl) hroom_m_trim (fun r30 _s51 ok31 hq => ?_) (fun _ _ hx => hx.elim)
            obtain ⟨hs_, hk_⟩ := hq
            subst hs_
            have h := hk_
            refine z_istore C [(5, .int (iI r30)), (0, .ref (zA G 45)), (1, .int (iI p0)), (2, .int (iI p1)), (3, .int (iI p2)), (4, .int (iI r10)), (6, .int (iI v6_14)), (7, .int (iI v7_22))] d_m_shift_238 (by decide) rfl ?_
            refine z_iload C 6 d_m_shift_240 rfl ?_
            refine Jo1.walk (fun v5_32 σ33 => okI v5_32 → Z E G 10 0 0 Q σ33 281 [(0, .ref (zA G 45)), (1, .int (iI p0)), (2, .int (iI p1)), (5, .int (iI v5_32))] []) h ?_ ?_
            · intro v5_32 σ33 h ok34
              refine z_aload_n C 0 d_m_shift_281 rfl ?_
              refine z_iload_n C 1 d_m_shift_282 rfl ?_
              refine z_aload_n C 0 d_m_shift_283 rfl ?_
              refine z_mget C 4 d_m_shift_284 (by decide) k_464 rfl rfl ?_
              refine z_iload_n C 2 d_m_shift_287 rfl ?_
              obtain ⟨hc36, h⟩ := h
              refine z_ialdN C (16) d_m_shift_288 (Or.inr ⟨by decide, by decide⟩) (by decide) hc36 ?_
              refine z_aload_n C 0 d_m_shift_289 rfl ?_
              refine z_mget C 8 d_m_shift_290 (by decide) k_468 rfl rfl ?_
              refine z_iload C 3 d_m_shift_293 rfl ?_
              refine z_iconst C d_m_shift_295 ?_
              obtain ⟨ok37, h⟩ := h
              refine z_callV C "LimbDeskModel" [.int (iI p0), .int (iI (σ33 48 p1)), .ref (zA G 52), .int (iI v5_32), .int (iI 2)] [] 5 d_m_shift_296 (c_m_keep (zl E) G h h_p0 ok37 (Or.inr ⟨by decide, by decide⟩) ok34 (okI_lit rfl)) k_542 k_539 k_541 k_s9 k_3 (by decide) (recv_M C) (by decide +kernel) rfl rfl (Nat.le_of_ble_eq_true rfl) hroom_m_keep (fun r38 σ39 ok40 hq => ?_) (fun _ _ hx => hx.elim)
              have h := hq
              refine z_pop C d_m_shift_299 rfl ?_
              refine z_aload_n C 0 d_m_shift_300 rfl ?_
              refine z_iload_n C 1 d_m_shift_301 rfl ?_
              refine z_callV C "LimbDeskModel" [.int (iI p0)] [] 1 d_m_shift_302 (c_m_size0 (zl E) G h h_p0) k_530 k_527 k_529 k_s7 k_3 (by decide) (recv_M C) (by decide +kernel) rfl rfl (Nat.le_of_ble_eq_true rfl) hroom_m_size0 (fun r41 σ42 ok43 hq => ?_) (fun _ _ hx => hx.elim)
              have h := hq
              subst hQ
              exact z_ireturn C d_m_shift_305.1 hr ⟨Nat.zero_le _, Nat.zero_le _⟩ ok43 h
            · intro J35 HJ35 h
              refine z_if_eq C d_m_shift_242 ok16 (fun hb44 => ?_) (fun hb44 => ?_)
              · have h := h.1 hb44
                refine z_sub [(0, .ref (zA G 45)), (1, .int (iI p0)), (2, .int (iI p1)), (5, .int (iI r30))] [1, 2, 3, 0] rfl ?_
                exact HJ35 _ _ h ok31
              · have h := h.2 hb44
                refine z_aload_n C 1 d_m_shift_245 rfl ?_
                refine z_mget C 4 d_m_shift_246 (by decide) k_464 rfl rfl ?_
                refine z_iload_n C 3 d_m_shift_249 rfl ?_
                obtain ⟨hc45, h⟩ := h
                refine z_ialdN C (16) d_m_shift_250 (Or.inr ⟨by decide, by decide⟩) (by decide) hc45 ?_
                obtain ⟨ok46, h⟩ := h
                refine z_if_ge C d_m_shift_251 ok46 (fun hb47 => ?_) (fun hb47 => ?_)
                · have h := h.1 hb47
                  refine z_sub [(0, .ref (zA G 45)), (1, .int (iI p0)), (2, .int (iI p1)), (5, .int (iI r30))] [1, 2, 3, 0] rfl ?_
                  exact HJ35 _ _ h ok31
                · have h := h.2 hb47
                  refine z_aload_n C 1 d_m_shift_254 rfl ?_
                  refine z_mget C 9 d_m_shift_255 (by decide) k_469 rfl rfl ?_
                  refine z_iconst C d_m_shift_258 ?_
                  refine z_iconst C d_m_shift_259 ?_
                  refine z_iastN C (9000) d_m_shift_260 (Or.inr ⟨by decide, by decide⟩) (by decide) ⟨by decide, by decide⟩ ?_
                  refine z_aload_n C 1 d_m_shift_261 rfl ?_
                  refine z_mget C 8 d_m_shift_262 (by decide) k_468 rfl rfl ?_
                  refine z_iload C 0 d_m_shift_265 rfl ?_
                  refine z_aload_n C 1 d_m_shift_267 rfl ?_
                  refine z_mget C 9 d_m_shift_268 (by decide) k_469 rfl rfl ?_
                  refine z_iconst C d_m_shift_271 ?_
                  refine z_aload_n C 1 d_m_shift_272 rfl ?_
                  refine z_mget C 8 d_m_shift_273 (by decide) k_468 rfl rfl ?_
                  refine z_callS C [.ref (zA G 52), .int (iI r30), .ref (zA G 53), .int (iI 1), .ref (zA G 52)] [] 5 d_m_shift_276 (c_m_plus (zl E) G h (Or.inr ⟨by decide, by decide⟩) ok31 (Or.inr ⟨by decide, by decide⟩) (okI_lit rfl) (Or.inr ⟨by decide, by decide⟩)) k_578 k_576 k_577 k_3 (by decide)  (by decide +kernel) rfl rfl (Nat.le_of_ble_eq_true rfl) hroom_m_plus (fun r48 σ49 ok50 hq => ?_) (fun _ _ hx => hx.elim)
                  have h := hq
                  refine z_istore C [(5, .int (iI r48)), (0, .ref (zA G 45)), (1, .int (iI p0)), (2, .int (iI p1)), (3, .int (iI p2)), (4, .int (iI r10)), (6, .int (iI v6_14)), (7, .int (iI v7_22))] d_m_shift_279 (by decide) rfl ?_
                  refine z_sub [(0, .ref (zA G 45)), (1, .int (iI p0)), (2, .int (iI p1)), (5, .int (iI r48))] [1, 2, 3, 0] rfl ?_
                  exact HJ35 _ _ h ok50
          · have h := h.2 hb29
            refine z_iconst C d_m_shift_161 ?_
            refine z_istore C [(8, .int (iI 0)), (0, .ref (zA G 45)), (1, .int (iI p0)), (2, .int (iI p1)), (3, .int (iI p2)), (4, .int (iI r10)), (5, .int (iI v5_21)), (6, .int (iI v6_14)), (7, .int (iI v7_22))] d_m_shift_162 (by decide) rfl ?_
            refine z_iconst C d_m_shift_164 ?_
            refine z_istore C [(9, .int (iI 0)), (8, .int (iI 0)), (0, .ref (zA G 45)), (1, .int (iI p0)), (2, .int (iI p1)), (3, .int (iI p2)), (4, .int (iI r10)), (5, .int (iI v5_21)), (6, .int (iI v6_14)), (7, .int (iI v7_22))] d_m_shift_165 (by decide) rfl ?_
            refine z_sub [(0, .ref (zA G 45)), (1, .int (iI p0)), (2, .int (iI p1)), (3, .int (iI p2)), (4, .int (iI r10)), (5, .int (iI v5_21)), (6, .int (iI v6_14)), (7, .int (iI v7_22)), (8, .int (iI 0)), (9, .int (iI 0))] [2, 3, 4, 5, 6, 7, 8, 9, 1, 0] rfl ?_
            refine (Lq2.walk (P := fun v8_52 v9_53 => okI v8_52 → okI v9_53 → Z E G 10 0 0 Q σ23 167 [(0, .ref (zA G 45)), (1, .int (iI p0)), (2, .int (iI p1)), (3, .int (iI p2)), (4, .int (iI r10)), (5, .int (iI v5_21)), (6, .int (iI v6_14)), (7, .int (iI v7_22)), (8, .int (iI v8_52)), (9, .int (iI v9_53))] []) ?_ h) (okI_lit rfl) (okI_lit rfl)
            intro v8_52 v9_53 again56 Hagain56 h ok54 ok55
            refine z_iload C 9 d_m_shift_167 rfl ?_
            refine z_bipush C d_m_shift_169 (by decide) ?_
            refine z_icmp_ge C d_m_shift_171 ok55 (okI_lit rfl) (fun hb57 => ?_) (fun hb57 => ?_)
            · have h := h.1 hb57
              refine z_aload_n C 0 d_m_shift_211 rfl ?_
              refine z_mget C 8 d_m_shift_212 (by decide) k_468 rfl rfl ?_
              refine z_iload C 5 d_m_shift_215 rfl ?_
              refine z_iinc C 5 [(5, .int (iI (v5_21 + 1))), (0, .ref (zA G 45)), (1, .int (iI p0)), (2, .int (iI p1)), (3, .int (iI p2)), (4, .int (iI r10)), (6, .int (iI v6_14)), (7, .int (iI v7_22)), (8, .int (iI v8_52)), (9, .int (iI v9_53))] d_m_shift_217 rfl (by decide) rfl ?_
              refine z_iload C 8 d_m_shift_220 rfl ?_
              obtain ⟨hc58, h⟩ := h
              refine z_iastN C (9000) d_m_shift_222 (Or.inr ⟨by decide, by decide⟩) (by decide) hc58 ?_
              refine z_iinc C 7 [(7, .int (iI (v7_22 + 1))), (5, .int (iI (v5_21 + 1))), (0, .ref (zA G 45)), (1, .int (iI p0)), (2, .int (iI p1)), (3, .int (iI p2)), (4, .int (iI r10)), (6, .int (iI v6_14)), (8, .int (iI v8_52)), (9, .int (iI v9_53))] d_m_shift_223 rfl (by decide) rfl ?_
              refine z_goto C d_m_shift_226 ?_
              obtain ⟨ok59, h⟩ := h
              obtain ⟨ok60, h⟩ := h
              refine z_sub [(0, .ref (zA G 45)), (1, .int (iI p0)), (2, .int (iI p1)), (3, .int (iI p2)), (4, .int (iI r10)), (5, .int (iI (v5_21 + 1))), (6, .int (iI v6_14)), (7, .int (iI (v7_22 + 1)))] [2, 3, 4, 5, 6, 1, 7, 0] rfl ?_
              exact Hagain26 _ _ _ h ok59 ok60
            · have h := h.2 hb57
              refine z_aload_n C 0 d_m_shift_174 rfl ?_
              refine z_mget C 6 d_m_shift_175 (by decide) k_466 rfl rfl ?_
              refine z_iload C 4 d_m_shift_178 rfl ?_
              refine z_bipush C d_m_shift_180 (by decide) ?_
              refine z_iload C 7 d_m_shift_182 rfl ?_
              refine z_imul C d_m_shift_184 ?_
              refine z_iload C 9 d_m_shift_185 rfl ?_
              refine z_iadd C d_m_shift_187 ?_
              refine z_iload_n C 3 d_m_shift_188 rfl ?_
              refine z_isub C d_m_shift_189 ?_
              obtain ⟨ok61, h⟩ := h
              refine z_callS C [.ref (zA G 50), .int (iI r10), .int (iI (((16 * v7_22) + v9_53) - p2))] [] 3 d_m_shift_190 (c_m_isBit (zl E) G h (Or.inr ⟨by decide, by decide⟩) ok12 ok61) k_604 k_602 k_603 k_3 (by decide)  (by decide +kernel) rfl rfl (Nat.le_of_ble_eq_true rfl) hroom_m_isBit (fun r62 _s73 ok63 hq => ?_) (fun _ _ hx => hx.elim)
              obtain ⟨hs_, hk_⟩ := hq
              subst hs_
              have h := hk_
              refine Jq1.walk (fun v8_64 => okI v8_64 → Z E G 10 0 0 Q σ23 205 [(0, .ref (zA G 45)), (1, .int (iI p0)), (2, .int (iI p1)), (3, .int (iI p2)), (4, .int (iI r10)), (5, .int (iI v5_21)), (6, .int (iI v6_14)), (7, .int (iI v7_22)), (8, .int (iI v8_64)), (9, .int (iI v9_53))] []) h ?_ ?_
              · intro v8_64 h ok65
                refine z_iinc C 9 [(9, .int (iI (v9_53 + 1))), (0, .ref (zA G 45)), (1, .int (iI p0)), (2, .int (iI p1)), (3, .int (iI p2)), (4, .int (iI r10)), (5, .int (iI v5_21)), (6, .int (iI v6_14)), (7, .int (iI v7_22)), (8, .int (iI v8_64))] d_m_shift_205 rfl (by decide) rfl ?_
                refine z_goto C d_m_shift_208 ?_
                obtain ⟨ok67, h⟩ := h
                refine z_sub [(0, .ref (zA G 45)), (1, .int (iI p0)), (2, .int (iI p1)), (3, .int (iI p2)), (4, .int (iI r10)), (5, .int (iI v5_21)), (6, .int (iI v6_14)), (7, .int (iI v7_22)), (8, .int (iI v8_64)), (9, .int (iI (v9_53 + 1)))] [1, 2, 3, 4, 5, 6, 7, 8, 9, 0] rfl ?_
                exact Hagain56 _ _ h ok65 ok67
              · intro J66 HJ66 h
                refine z_if_eq C d_m_shift_193 (okI_b ok63) (fun hb68 => ?_) (fun hb68 => ?_)
                · have h := h.1 hb68
                  refine z_sub [(0, .ref (zA G 45)), (1, .int (iI p0)), (2, .int (iI p1)), (3, .int (iI p2)), (4, .int (iI r10)), (5, .int (iI v5_21)), (6, .int (iI v6_14)), (7, .int (iI v7_22)), (8, .int (iI v8_52)), (9, .int (iI v9_53))] [0, 1, 2, 3, 4, 5, 6, 7, 8, 9] rfl ?_
                  exact HJ66 _ h ok54
                · have h := h.2 hb68
                  refine z_iload C 8 d_m_shift_196 rfl ?_
                  refine z_iconst C d_m_shift_198 ?_
                  refine z_iload C 9 d_m_shift_199 rfl ?_
                  obtain ⟨hc69, h⟩ := h
                  refine z_ishl C d_m_shift_201 hc69 ?_
                  refine z_ior C d_m_shift_202 ?_
                  refine z_namei (fun v8_70 e71 => ?_)
                  have h := h v8_70 e71
                  have ok72 : okI v8_70 := by rw [e71]; exact (okI_or _ _)
                  refine z_istore C [(8, .int (iI v8_70)), (0, .ref (zA G 45)), (1, .int (iI p0)), (2, .int (iI p1)), (3, .int (iI p2)), (4, .int (iI r10)), (5, .int (iI v5_21)), (6, .int (iI v6_14)), (7, .int (iI v7_22)), (9, .int (iI v9_53))] d_m_shift_203 (by decide) rfl ?_
                  refine z_sub [(0, .ref (zA G 45)), (1, .int (iI p0)), (2, .int (iI p1)), (3, .int (iI p2)), (4, .int (iI r10)), (5, .int (iI v5_21)), (6, .int (iI v6_14)), (7, .int (iI v7_22)), (8, .int (iI v8_70)), (9, .int (iI v9_53))] [1, 2, 3, 4, 5, 6, 7, 8, 0, 9] rfl ?_
                  exact HJ66 _ h ok72
        · have h := h.2 hb20
          refine z_iload C 6 d_m_shift_121 rfl ?_
          refine z_aload_n C 0 d_m_shift_123 rfl ?_
          refine z_mget C 6 d_m_shift_124 (by decide) k_466 rfl rfl ?_
          refine z_iload C 4 d_m_shift_127 rfl ?_
          refine z_iload C 7 d_m_shift_129 rfl ?_
          refine z_callS C [.ref (zA G 50), .int (iI r10), .int (iI v7_15)] [.int (iI v6_14)] 3 d_m_shift_131 (c_m_isBit (zl E) G h (Or.inr ⟨by decide, by decide⟩) ok12 ok17) k_604 k_602 k_603 k_3 (by decide)  (by decide +kernel) rfl rfl (Nat.le_of_ble_eq_true rfl) hroom_m_isBit (fun r74 _s80 ok75 hq => ?_) (fun _ _ hx => hx.elim)
          obtain ⟨hs_, hk_⟩ := hq
          subst hs_
          have h := hk_
          refine z_ior C d_m_shift_134 ?_
          refine z_namei (fun v6_76 e77 => ?_)
          have h := h v6_76 e77
          have ok78 : okI v6_76 := by rw [e77]; exact (okI_or _ _)
          refine z_istore C [(6, .int (iI v6_76)), (0, .ref (zA G 45)), (1, .int (iI p0)), (2, .int (iI p1)), (3, .int (iI p2)), (4, .int (iI r10)), (5, .int (iI 0)), (7, .int (iI v7_15))] d_m_shift_135 (by decide) rfl ?_
          refine z_iinc C 7 [(7, .int (iI (v7_15 + 1))), (6, .int (iI v6_76)), (0, .ref (zA G 45)), (1, .int (iI p0)), (2, .int (iI p1)), (3, .int (iI p2)), (4, .int (iI r10)), (5, .int (iI 0))] d_m_shift_137 rfl (by decide) rfl ?_
          refine z_goto C d_m_shift_140 ?_
          obtain ⟨ok79, h⟩ := h
          refine z_sub [(0, .ref (zA G 45)), (1, .int (iI p0)), (2, .int (iI p1)), (3, .int (iI p2)), (4, .int (iI r10)), (5, .int (iI 0)), (6, .int (iI v6_76)), (7, .int (iI (v7_15 + 1)))] [2, 3, 4, 5, 6, 7, 1, 0] rfl ?_
          exact Hagain18 _ _ h ok78 ok79
      · have h := h.2 hb13
        refine z_aload_n C 1 d_m_shift_62 rfl ?_
        refine z_iload_n C 2 d_m_shift_63 rfl ?_
        refine z_aload_n C 1 d_m_shift_64 rfl ?_
        refine z_mget C 4 d_m_shift_65 (by decide) k_464 rfl rfl ?_
        refine z_iload_n C 3 d_m_shift_68 rfl ?_
        obtain ⟨hc81, h⟩ := h
        refine z_ialdN C (16) d_m_shift_69 (Or.inr ⟨by decide, by decide⟩) (by decide) hc81 ?_
        refine z_aload_n C 1 d_m_shift_70 rfl ?_
        refine z_mget C 8 d_m_shift_71 (by decide) k_468 rfl rfl ?_
        refine z_aload_n C 1 d_m_shift_74 rfl ?_
        refine z_mget C 6 d_m_shift_75 (by decide) k_466 rfl rfl ?_
        refine z_iload C 0 d_m_shift_78 rfl ?_
        refine z_iload_n C 4 d_m_shift_80 rfl ?_
        refine z_aload_n C 1 d_m_shift_81 rfl ?_
        refine z_mget C 8 d_m_shift_82 (by decide) k_468 rfl rfl ?_
        refine z_callS C [.ref (zA G 50), .int (iI r10), .int (iI p2), .ref (zA G 52)] [.ref (zA G 52), .int (iI (σ11 48 p1)), .int (iI p0), .ref (zA G 45)] 4 d_m_shift_85 (c_m_shiftedLeft (zl E) G h (Or.inr ⟨by decide, by decide⟩) ok12 h_p2 (Or.inr ⟨by decide, by decide⟩)) k_601 k_599 k_600 k_3 (by decide)  (by decide +kernel) rfl rfl (Nat.le_of_ble_eq_true rfl) hroom_m_shiftedLeft (fun r82 σ83 ok84 hq => ?_) (fun _ _ hx => hx.elim)
        have h := hq
        refine z_iconst C d_m_shift_88 ?_
        obtain ⟨ok85, h⟩ := h
        refine z_callV C "LimbDeskModel" [.int (iI p0), .int (iI (σ11 48 p1)), .ref (zA G 52), .int (iI r82), .int (iI 2)] [] 5 d_m_shift_89 (c_m_keep (zl E) G h h_p0 ok85 (Or.inr ⟨by decide, by decide⟩) ok84 (okI_lit rfl)) k_542 k_539 k_541 k_s9 k_3 (by decide) (recv_M C) (by decide +kernel) rfl rfl (Nat.le_of_ble_eq_true rfl) hroom_m_keep (fun r86 σ87 ok88 hq => ?_) (fun _ _ hx => hx.elim)
        have h := hq
        refine z_if_eq C d_m_shift_92 (okI_b ok88) (fun hb89 => ?_) (fun hb89 => ?_)
        · have h := h.1 hb89
          refine z_iconst C d_m_shift_103 ?_
          subst hQ
          exact z_ireturn C d_m_shift_104.1 hr ⟨Nat.zero_le _, Nat.zero_le _⟩ (okI_lit rfl) h
        · have h := h.2 hb89
          refine z_aload_n C 1 d_m_shift_95 rfl ?_
          refine z_iload_n C 2 d_m_shift_96 rfl ?_
          refine z_callV C "LimbDeskModel" [.int (iI p0)] [] 1 d_m_shift_97 (c_m_size0 (zl E) G h h_p0) k_530 k_527 k_529 k_s7 k_3 (by decide) (recv_M C) (by decide +kernel) rfl rfl (Nat.le_of_ble_eq_true rfl) hroom_m_size0 (fun r90 σ91 ok92 hq => ?_) (fun _ _ hx => hx.elim)
          have h := hq
          refine z_goto C d_m_shift_100 ?_
          subst hQ
          exact z_ireturn C d_m_shift_104.1 hr ⟨Nat.zero_le _, Nat.zero_le _⟩ ok92 h
    · have h := h.2 hb9
      refine z_iconst C d_m_shift_45 ?_
      subst hQ
      exact z_ireturn C d_m_shift_46.1 hr ⟨Nat.zero_le _, Nat.zero_le _⟩ (okI_lit rfl) h
  · intro J5 HJ5 h
    refine Jq0.walk (Z E G 10 0 0 Q (mS σ 45 0 0) 33 [(0, .ref (zA G 45)), (1, .int (iI p0)), (2, .int (iI p1)), (3, .int (iI p2))] [.ref (zA G 45)]) h ?_ ?_
    · intro h
      refine z_iconst C d_m_shift_33 ?_
      refine z_goto C d_m_shift_34 ?_
      refine z_sub [(0, .ref (zA G 45)), (1, .int (iI p0)), (2, .int (iI p1)), (3, .int (iI p2))] [0, 1, 2, 3] rfl ?_
      exact HJ5 _ h (okI_lit rfl)
    · intro J93 HJ93 h
      refine z_if_eq C d_m_shift_10 (okI_b ok2) (fun hb94 => ?_) (fun hb94 => ?_)
      · have h := h.1 hb94
        refine z_sub [(0, .ref (zA G 45)), (1, .int (iI p0)), (2, .int (iI p1)), (3, .int (iI p2))] [0, 1, 2, 3] rfl ?_
        exact HJ93 h
      · have h := h.2 hb94
        refine z_iload_n C 2 d_m_shift_13 rfl ?_
        refine z_callS C [.int (iI p1)] [.ref (zA G 45)] 1 d_m_shift_14 (c_m_isRegister (zl E) G h h_p1) k_519 k_517 k_518 k_3 (by decide)  (by decide +kernel) rfl rfl (Nat.le_of_ble_eq_true rfl) hroom_m_isRegister (fun r95 _s102 ok96 hq => ?_) (fun _ _ hx => hx.elim)
        obtain ⟨hs_, hk_⟩ := hq
        subst hs_
        have h := hk_
        refine z_if_eq C d_m_shift_17 (okI_b ok96) (fun hb97 => ?_) (fun hb97 => ?_)
        · have h := h.1 hb97
          refine z_sub [(0, .ref (zA G 45)), (1, .int (iI p0)), (2, .int (iI p1)), (3, .int (iI p2))] [0, 1, 2, 3] rfl ?_
          exact HJ93 h
        · have h := h.2 hb97
          refine z_iload_n C 3 d_m_shift_20 rfl ?_
          refine z_sipush C d_m_shift_21 (by decide) ?_
          refine z_sipush C d_m_shift_24 (by decide) ?_
          refine z_callS C [.int (iI p2), .int (iI (-4000)), .int (iI 4000)] [.ref (zA G 45)] 3 d_m_shift_27 (c_m_in (zl E) G h h_p2 (okI_lit rfl) (okI_lit rfl)) k_522 k_520 k_521 k_3 (by decide)  (by decide +kernel) rfl rfl (Nat.le_of_ble_eq_true rfl) hroom_m_in (fun r98 _s101 ok99 hq => ?_) (fun _ _ hx => hx.elim)
          obtain ⟨hs_, hk_⟩ := hq
          subst hs_
          have h := hk_
          refine z_if_ne C d_m_shift_30 (okI_b ok99) (fun hb100 => ?_) (fun hb100 => ?_)
          · have h := h.1 hb100
            refine z_iconst C d_m_shift_37 ?_
            refine z_sub [(0, .ref (zA G 45)), (1, .int (iI p0)), (2, .int (iI p1)), (3, .int (iI p2))] [0, 1, 2, 3] rfl ?_
            exact HJ5 _ h (okI_lit rfl)
          · have h := h.2 hb100
            refine z_sub [(0, .ref (zA G 45)), (1, .int (iI p0)), (2, .int (iI p1)), (3, .int (iI p2))] [0, 1, 2, 3] rfl ?_
            exact HJ93 h
theorem d_m_twos_0 : DD b_m_twos 0 (.iload_n 1) 1 1 := ⟨by decide +kernel, rfl⟩
theorem d_m_twos_1 : DD b_m_twos 1 (.istore 4) 2 3 := ⟨by decide +kernel, rfl⟩
theorem d_m_twos_3 : DD b_m_twos 3 (.iload 4) 2 5 := ⟨by decide +kernel, rfl⟩
theorem d_m_twos_5 : DD b_m_twos 5 (.iload_n 2) 1 6 := ⟨by decide +kernel, rfl⟩
theorem d_m_twos_6 : DB b_m_twos 6 (.if_icmp .ge 14) 14 9 20 := ⟨by decide +kernel, rfl, rfl⟩
theorem d_m_twos_9 : DD b_m_twos 9 (.aload_n 0) 1 10 := ⟨by decide +kernel, rfl⟩
theorem d_m_twos_10 : DD b_m_twos 10 (.iload 4) 2 12 := ⟨by decide +kernel, rfl⟩
theorem d_m_twos_12 : DD b_m_twos 12 (.iconst 0) 1 13 := ⟨by decide +kernel, rfl⟩
theorem d_m_twos_13 : DD b_m_twos 13 .iastore 1 14 := ⟨by decide +kernel, rfl⟩
theorem d_m_twos_14 : DD b_m_twos 14 (.iinc 4 1) 3 17 := ⟨by decide +kernel, rfl⟩
theorem d_m_twos_17 : DB b_m_twos 17 (.goto (-14)) (-14) 20 3 := ⟨by decide +kernel, rfl, rfl⟩
theorem d_m_twos_20 : DD b_m_twos 20 (.iload_n 3) 1 21 := ⟨by decide +kernel, rfl⟩
theorem d_m_twos_21 : DB b_m_twos 21 (.ifCond .eq 7) 7 24 28 := ⟨by decide +kernel, rfl, rfl⟩
theorem d_m_twos_24 : DD b_m_twos 24 (.iconst 1) 1 25 := ⟨by decide +kernel, rfl⟩
theorem d_m_twos_25 : DB b_m_twos 25 (.goto 4) 4 28 29 := ⟨by decide +kernel, rfl, rfl⟩
theorem d_m_twos_28 : DD b_m_twos 28 (.iconst 0) 1 29 := ⟨by decide +kernel, rfl⟩
theorem d_m_twos_29 : DD b_m_twos 29 (.istore 4) 2 31 := ⟨by decide +kernel, rfl⟩
theorem d_m_twos_31 : DD b_m_twos 31 (.iconst 0) 1 32 := ⟨by decide +kernel, rfl⟩
theorem d_m_twos_32 : DD b_m_twos 32 (.istore 5) 2 34 := ⟨by decide +kernel, rfl⟩
theorem d_m_twos_34 : DD b_m_twos 34 (.iload 5) 2 36 := ⟨by decide +kernel, rfl⟩
theorem d_m_twos_36 : DD b_m_twos 36 (.iload_n 2) 1 37 := ⟨by decide +kernel, rfl⟩
theorem d_m_twos_37 : DB b_m_twos 37 (.if_icmp .ge 43) 43 40 80 := ⟨by decide +kernel, rfl, rfl⟩
theorem d_m_twos_40 : DD b_m_twos 40 (.iload_n 3) 1 41 := ⟨by decide +kernel, rfl⟩
theorem d_m_twos_41 : DB b_m_twos 41 (.ifCond .eq 39) 39 44 80 := ⟨by decide +kernel, rfl, rfl⟩
theorem d_m_twos_44 : DD b_m_twos 44 (.iload 4) 2 46 := ⟨by decide +kernel, rfl⟩
theorem d_m_twos_46 : DD b_m_twos 46 (.aload_n 0) 1 47 := ⟨by decide +kernel, rfl⟩
theorem d_m_twos_47 : DD b_m_twos 47 (.iload 5) 2 49 := ⟨by decide +kernel, rfl⟩
theorem d_m_twos_49 : DD b_m_twos 49 .iaload 1 50 := ⟨by decide +kernel, rfl⟩
theorem d_m_twos_50 : DD b_m_twos 50 (.iconst (-1)) 1 51 := ⟨by decide +kernel, rfl⟩
theorem d_m_twos_51 : DD b_m_twos 51 .ixor 1 52 := ⟨by decide +kernel, rfl⟩
theorem d_m_twos_52 : DD b_m_twos 52 (.ldc 53) 2 54 := ⟨by decide +kernel, rfl⟩
theorem d_m_twos_54 : DD b_m_twos 54 .iand 1 55 := ⟨by decide +kernel, rfl⟩
theorem d_m_twos_55 : DD b_m_twos 55 .iadd 1 56 := ⟨by decide +kernel, rfl⟩
theorem d_m_twos_56 : DD b_m_twos 56 (.istore 4) 2 58 := ⟨by decide +kernel, rfl⟩
theorem d_m_twos_58 : DD b_m_twos 58 (.aload_n 0) 1 59 := ⟨by decide +kernel, rfl⟩
theorem d_m_twos_59 : DD b_m_twos 59 (.iload 5) 2 61 := ⟨by decide +kernel, rfl⟩
theorem d_m_twos_61 : DD b_m_twos 61 (.iload 4) 2 63 := ⟨by decide +kernel, rfl⟩
theorem d_m_twos_63 : DD b_m_twos 63 (.ldc 53) 2 65 := ⟨by decide +kernel, rfl⟩
theorem d_m_twos_65 : DD b_m_twos 65 .iand 1 66 := ⟨by decide +kernel, rfl⟩
theorem d_m_twos_66 : DD b_m_twos 66 .iastore 1 67 := ⟨by decide +kernel, rfl⟩
theorem d_m_twos_67 : DD b_m_twos 67 (.iload 4) 2 69 := ⟨by decide +kernel, rfl⟩
theorem d_m_twos_69 : DD b_m_twos 69 (.bipush 16) 2 71 := ⟨by decide +kernel, rfl⟩
theorem d_m_twos_71 : DD b_m_twos 71 .ishr 1 72 := ⟨by decide +kernel, rfl⟩
theorem d_m_twos_72 : DD b_m_twos 72 (.istore 4) 2 74 := ⟨by decide +kernel, rfl⟩
theorem d_m_twos_74 : DD b_m_twos 74 (.iinc 5 1) 3 77 := ⟨by decide +kernel, rfl⟩
theorem d_m_twos_77 : DB b_m_twos 77 (.goto (-43)) (-43) 80 34 := ⟨by decide +kernel, rfl, rfl⟩
theorem d_m_twos_80 : DD b_m_twos 80 .return_ 1 81 := ⟨by decide +kernel, rfl⟩
set_option maxRecDepth 20000 in
set_option maxHeartbeats 4000000 in
theorem c_m_twos (l : Launch) (G : ZG) {p0 p1 p2 p3 : Int} {σ : Mem} {K : Mem → Prop} (h : wp_m_twos p0 p1 p2 p3 σ K) (h_p0 : isA p0) (h_p1 : okI p1) (h_p2 : okI p2) (h_p3 : okI p3) : Ct l G y_m_twos (.code y_m_twos b_m_twos 6 none) { frames := 0, cells := 0, slots := 0, locals := 0 } 0 0 0 [.ref (zA G p0), .int (iI p1), .int (iI p2), .int (iI p3)] σ (fun _ σ1 => K σ1) (fun _ _ => False) := by
  unfold wp_m_twos at h
  refine Ct.ofZ [(0, .ref (zA G p0)), (1, .int (iI p1)), (2, .int (iI p2)), (3, .int (iI p3))] "LimbDeskModel" (by decide) rfl (Nat.le_of_ble_eq_true rfl) rfl ?_
  intro E hR hlE C hr hX
  subst hlE
  clear hR
  obtain ⟨Q, hQ⟩ : ∃ Q, Q = MQX G (zb E) 0 (fun _ σ1 => K σ1) (fun _ _ => False) (zs E) 0 0 0 0 := ⟨_, rfl⟩
  show Z E G 6 0 0 (MQX G (zb E) 0 (fun _ σ1 => K σ1) (fun _ _ => False) (zs E) 0 0 0 0) σ 0 [(0, .ref (zA G p0)), (1, .int (iI p1)), (2, .int (iI p2)), (3, .int (iI p3))] []
  rw [← hQ]
  refine z_iload_n C 1 d_m_twos_0 rfl ?_
  refine z_istore C [(4, .int (iI p1)), (0, .ref (zA G p0)), (1, .int (iI p1)), (2, .int (iI p2)), (3, .int (iI p3))] d_m_twos_1 (by decide) rfl ?_
  refine z_sub [(0, .ref (zA G p0)), (2, .int (iI p2)), (3, .int (iI p3)), (4, .int (iI p1))] [1, 3, 4, 0] rfl ?_
  refine (Lo1.walk (P := fun v4_1 σ2 => okI v4_1 → Z E G 6 0 0 Q σ2 3 [(0, .ref (zA G p0)), (2, .int (iI p2)), (3, .int (iI p3)), (4, .int (iI v4_1))] []) ?_ h) h_p1
  intro v4_1 σ2 again4 Hagain4 h ok3
  refine z_iload C 3 d_m_twos_3 rfl ?_
  refine z_iload_n C 1 d_m_twos_5 rfl ?_
  refine z_icmp_ge C d_m_twos_6 ok3 h_p2 (fun hb5 => ?_) (fun hb5 => ?_)
  · have h := h.1 hb5
    refine z_iload_n C 2 d_m_twos_20 rfl ?_
    have hj : ∀ s7 : Int, s7 = (if p3 = 0 then 0 else 1) → Z E G 6 0 0 Q σ2 29 [(0, .ref (zA G p0)), (2, .int (iI p2)), (3, .int (iI p3)), (4, .int (iI v4_1))] [.int (iI s7)] := by
      intro s7 e8
      have h := h s7 e8
      have ok9 : okI s7 := by rw [e8]; split; exact (okI_lit rfl); exact (okI_lit rfl)
      refine z_istore C [(4, .int (iI s7)), (0, .ref (zA G p0)), (2, .int (iI p2)), (3, .int (iI p3))] d_m_twos_29 (by decide) rfl ?_
      refine z_iconst C d_m_twos_31 ?_
      refine z_istore C [(5, .int (iI 0)), (4, .int (iI s7)), (0, .ref (zA G p0)), (2, .int (iI p2)), (3, .int (iI p3))] d_m_twos_32 (by decide) rfl ?_
      refine z_sub [(0, .ref (zA G p0)), (2, .int (iI p2)), (3, .int (iI p3)), (4, .int (iI s7)), (5, .int (iI 0))] [2, 3, 4, 1, 0] rfl ?_
      refine (Lo2.walk (P := fun v4_10 v5_11 σ12 => okI v4_10 → okI v5_11 → Z E G 6 0 0 Q σ12 34 [(0, .ref (zA G p0)), (2, .int (iI p2)), (3, .int (iI p3)), (4, .int (iI v4_10)), (5, .int (iI v5_11))] []) ?_ h) ok9 (okI_lit rfl)
      intro v4_10 v5_11 σ12 again15 Hagain15 h ok13 ok14
      refine z_iload C 4 d_m_twos_34 rfl ?_
      refine z_iload_n C 1 d_m_twos_36 rfl ?_
      refine z_icmp_ge C d_m_twos_37 ok14 h_p2 (fun hb16 => ?_) (fun hb16 => ?_)
      · have h := h.1 hb16
        subst hQ
        exact z_return C d_m_twos_80.1 hr ⟨Nat.zero_le _, Nat.zero_le _⟩ h
      · have h := h.2 hb16
        refine z_iload_n C 2 d_m_twos_40 rfl ?_
        refine z_if_eq C d_m_twos_41 h_p3 (fun hb17 => ?_) (fun hb17 => ?_)
        · have h := h.1 hb17
          subst hQ
          exact z_return C d_m_twos_80.1 hr ⟨Nat.zero_le _, Nat.zero_le _⟩ h
        · have h := h.2 hb17
          refine z_iload C 3 d_m_twos_44 rfl ?_
          refine z_aload_n C 0 d_m_twos_46 rfl ?_
          refine z_iload C 4 d_m_twos_47 rfl ?_
          obtain ⟨hc18, h⟩ := h
          refine z_ialdN C (ln p0) d_m_twos_49 h_p0 rfl hc18 ?_
          refine z_iconst C d_m_twos_50 ?_
          refine z_inot C d_m_twos_51 ?_
          refine z_ldc C d_m_twos_52 k_579 (n := 65535) (by decide) ?_
          refine z_imask C 16 65536 d_m_twos_54 (by decide) (by decide) (by decide) ?_
          refine z_iadd C d_m_twos_55 ?_
          refine z_namei (fun v4_19 e20 => ?_)
          have h := h v4_19 e20
          refine z_istore C [(4, .int (iI v4_19)), (0, .ref (zA G p0)), (2, .int (iI p2)), (3, .int (iI p3)), (5, .int (iI v5_11))] d_m_twos_56 (by decide) rfl ?_
          refine z_aload_n C 1 d_m_twos_58 rfl ?_
          refine z_iload C 4 d_m_twos_59 rfl ?_
          refine z_iload C 0 d_m_twos_61 rfl ?_
          refine z_ldc C d_m_twos_63 k_579 (n := 65535) (by decide) ?_
          refine z_imask C 16 65536 d_m_twos_65 (by decide) (by decide) (by decide) ?_
          refine z_iastN C (ln p0) d_m_twos_66 h_p0 rfl hc18 ?_
          refine z_iload C 0 d_m_twos_67 rfl ?_
          refine z_bipush C d_m_twos_69 (by decide) ?_
          obtain ⟨ok21, h⟩ := h
          refine z_ishrK C 65536 d_m_twos_71 (by decide) ok21 ⟨by decide, by decide⟩ ?_
          refine z_namei (fun v4_22 e23 => ?_)
          have h := h v4_22 e23
          refine z_istore C [(4, .int (iI v4_22)), (0, .ref (zA G p0)), (2, .int (iI p2)), (3, .int (iI p3)), (5, .int (iI v5_11))] d_m_twos_72 (by decide) rfl ?_
          refine z_iinc C 4 [(5, .int (iI (v5_11 + 1))), (4, .int (iI v4_22)), (0, .ref (zA G p0)), (2, .int (iI p2)), (3, .int (iI p3))] d_m_twos_74 rfl (by decide) rfl ?_
          refine z_goto C d_m_twos_77 ?_
          obtain ⟨ok24, h⟩ := h
          obtain ⟨ok25, h⟩ := h
          refine z_sub [(0, .ref (zA G p0)), (2, .int (iI p2)), (3, .int (iI p3)), (4, .int (iI v4_22)), (5, .int (iI (v5_11 + 1)))] [2, 3, 4, 1, 0] rfl ?_
          exact Hagain15 _ _ _ h ok24 ok25
    clear h
    refine z_if_eq C d_m_twos_21 h_p3 (fun hb6 => ?_) (fun hb6 => ?_)
    · refine z_iconst C d_m_twos_28 ?_
      exact hj _ (if_pos hb6).symm
    · refine z_iconst C d_m_twos_24 ?_
      refine z_goto C d_m_twos_25 ?_
      exact hj _ (if_neg hb6).symm
  · have h := h.2 hb5
    refine z_aload_n C 0 d_m_twos_9 rfl ?_
    refine z_iload C 3 d_m_twos_10 rfl ?_
    refine z_iconst C d_m_twos_12 ?_
    obtain ⟨hc26, h⟩ := h
    refine z_iastN C (ln p0) d_m_twos_13 h_p0 rfl hc26 ?_
    refine z_iinc C 3 [(4, .int (iI (v4_1 + 1))), (0, .ref (zA G p0)), (2, .int (iI p2)), (3, .int (iI p3))] d_m_twos_14 rfl (by decide) rfl ?_
    refine z_goto C d_m_twos_17 ?_
    obtain ⟨ok27, h⟩ := h
    refine z_sub [(0, .ref (zA G p0)), (2, .int (iI p2)), (3, .int (iI p3)), (4, .int (iI (v4_1 + 1)))] [1, 2, 3, 0] rfl ?_
    exact Hagain4 _ _ h ok27
theorem d_m_bits_0 : DD b_m_bits 0 (.aload_n 0) 1 1 := ⟨by decide +kernel, rfl⟩
theorem d_m_bits_1 : DD b_m_bits 1 (.iconst 0) 1 2 := ⟨by decide +kernel, rfl⟩
theorem d_m_bits_2 : DD b_m_bits 2 (.putfield 49) 3 5 := ⟨by decide +kernel, rfl⟩
theorem d_m_bits_5 : DD b_m_bits 5 (.aload_n 0) 1 6 := ⟨by decide +kernel, rfl⟩
theorem d_m_bits_6 : DD b_m_bits 6 (.iload_n 1) 1 7 := ⟨by decide +kernel, rfl⟩
theorem d_m_bits_7 : DD b_m_bits 7 (.iconst 0) 1 8 := ⟨by decide +kernel, rfl⟩
theorem d_m_bits_8 : DD b_m_bits 8 (.iconst 2) 1 9 := ⟨by decide +kernel, rfl⟩
theorem d_m_bits_9 : DD b_m_bits 9 (.invokestatic 68) 3 12 := ⟨by decide +kernel, rfl⟩
theorem d_m_bits_12 : DB b_m_bits 12 (.ifCond .eq 25) 25 15 37 := ⟨by decide +kernel, rfl, rfl⟩
theorem d_m_bits_15 : DD b_m_bits 15 (.iload_n 2) 1 16 := ⟨by decide +kernel, rfl⟩
theorem d_m_bits_16 : DD b_m_bits 16 (.invokestatic 83) 3 19 := ⟨by decide +kernel, rfl⟩
theorem d_m_bits_19 : DB b_m_bits 19 (.ifCond .eq 18) 18 22 37 := ⟨by decide +kernel, rfl, rfl⟩
theorem d_m_bits_22 : DD b_m_bits 22 (.iload_n 3) 1 23 := ⟨by decide +kernel, rfl⟩
theorem d_m_bits_23 : DD b_m_bits 23 (.invokestatic 83) 3 26 := ⟨by decide +kernel, rfl⟩
theorem d_m_bits_26 : DB b_m_bits 26 (.ifCond .eq 11) 11 29 37 := ⟨by decide +kernel, rfl, rfl⟩
theorem d_m_bits_29 : DD b_m_bits 29 (.iload 4) 2 31 := ⟨by decide +kernel, rfl⟩
theorem d_m_bits_31 : DD b_m_bits 31 (.invokestatic 83) 3 34 := ⟨by decide +kernel, rfl⟩
theorem d_m_bits_34 : DB b_m_bits 34 (.ifCond .ne 7) 7 37 41 := ⟨by decide +kernel, rfl, rfl⟩
theorem d_m_bits_37 : DD b_m_bits 37 (.iconst 1) 1 38 := ⟨by decide +kernel, rfl⟩
theorem d_m_bits_38 : DB b_m_bits 38 (.goto 4) 4 41 42 := ⟨by decide +kernel, rfl, rfl⟩
theorem d_m_bits_41 : DD b_m_bits 41 (.iconst 0) 1 42 := ⟨by decide +kernel, rfl⟩
theorem d_m_bits_42 : DD b_m_bits 42 (.iconst 1) 1 43 := ⟨by decide +kernel, rfl⟩
theorem d_m_bits_43 : DD b_m_bits 43 (.invokevirtual 79) 3 46 := ⟨by decide +kernel, rfl⟩
theorem d_m_bits_46 : DB b_m_bits 46 (.ifCond .eq 5) 5 49 51 := ⟨by decide +kernel, rfl, rfl⟩
theorem d_m_bits_49 : DD b_m_bits 49 (.iconst 0) 1 50 := ⟨by decide +kernel, rfl⟩
theorem d_m_bits_50 : DD b_m_bits 50 .ireturn 1 51 := ⟨by decide +kernel, rfl⟩
theorem d_m_bits_51 : DD b_m_bits 51 (.aload_n 0) 1 52 := ⟨by decide +kernel, rfl⟩
theorem d_m_bits_52 : DD b_m_bits 52 (.iload_n 3) 1 53 := ⟨by decide +kernel, rfl⟩
theorem d_m_bits_53 : DD b_m_bits 53 (.aload_n 0) 1 54 := ⟨by decide +kernel, rfl⟩
theorem d_m_bits_54 : DD b_m_bits 54 (.getfield 22) 3 57 := ⟨by decide +kernel, rfl⟩
theorem d_m_bits_57 : DD b_m_bits 57 (.invokevirtual 72) 3 60 := ⟨by decide +kernel, rfl⟩
theorem d_m_bits_60 : DD b_m_bits 60 (.istore 5) 2 62 := ⟨by decide +kernel, rfl⟩
theorem d_m_bits_62 : DD b_m_bits 62 (.aload_n 0) 1 63 := ⟨by decide +kernel, rfl⟩
theorem d_m_bits_63 : DD b_m_bits 63 (.iload 4) 2 65 := ⟨by decide +kernel, rfl⟩
theorem d_m_bits_65 : DD b_m_bits 65 (.aload_n 0) 1 66 := ⟨by decide +kernel, rfl⟩
theorem d_m_bits_66 : DD b_m_bits 66 (.getfield 25) 3 69 := ⟨by decide +kernel, rfl⟩
theorem d_m_bits_69 : DD b_m_bits 69 (.invokevirtual 72) 3 72 := ⟨by decide +kernel, rfl⟩
theorem d_m_bits_72 : DD b_m_bits 72 (.istore 6) 2 74 := ⟨by decide +kernel, rfl⟩
theorem d_m_bits_74 : DD b_m_bits 74 (.sipush 131) 3 77 := ⟨by decide +kernel, rfl⟩
theorem d_m_bits_77 : DD b_m_bits 77 (.istore 7) 2 79 := ⟨by decide +kernel, rfl⟩
theorem d_m_bits_79 : DD b_m_bits 79 (.aload_n 0) 1 80 := ⟨by decide +kernel, rfl⟩
theorem d_m_bits_80 : DD b_m_bits 80 (.getfield 22) 3 83 := ⟨by decide +kernel, rfl⟩
theorem d_m_bits_83 : DD b_m_bits 83 (.iload 5) 2 85 := ⟨by decide +kernel, rfl⟩
theorem d_m_bits_85 : DD b_m_bits 85 (.iload 7) 2 87 := ⟨by decide +kernel, rfl⟩
theorem d_m_bits_87 : DD b_m_bits 87 (.aload_n 0) 1 88 := ⟨by decide +kernel, rfl⟩
theorem d_m_bits_88 : DD b_m_bits 88 (.getfield 16) 3 91 := ⟨by decide +kernel, rfl⟩
theorem d_m_bits_91 : DD b_m_bits 91 (.iload_n 3) 1 92 := ⟨by decide +kernel, rfl⟩
theorem d_m_bits_92 : DD b_m_bits 92 .iaload 1 93 := ⟨by decide +kernel, rfl⟩
theorem d_m_bits_93 : DB b_m_bits 93 (.ifCond .ge 7) 7 96 100 := ⟨by decide +kernel, rfl, rfl⟩
theorem d_m_bits_96 : DD b_m_bits 96 (.iconst 1) 1 97 := ⟨by decide +kernel, rfl⟩
theorem d_m_bits_97 : DB b_m_bits 97 (.goto 4) 4 100 101 := ⟨by decide +kernel, rfl, rfl⟩
theorem d_m_bits_100 : DD b_m_bits 100 (.iconst 0) 1 101 := ⟨by decide +kernel, rfl⟩
theorem d_m_bits_101 : DD b_m_bits 101 (.invokestatic 128) 3 104 := ⟨by decide +kernel, rfl⟩
theorem d_m_bits_104 : DD b_m_bits 104 (.aload_n 0) 1 105 := ⟨by decide +kernel, rfl⟩
theorem d_m_bits_105 : DD b_m_bits 105 (.getfield 25) 3 108 := ⟨by decide +kernel, rfl⟩
theorem d_m_bits_108 : DD b_m_bits 108 (.iload 6) 2 110 := ⟨by decide +kernel, rfl⟩
theorem d_m_bits_110 : DD b_m_bits 110 (.iload 7) 2 112 := ⟨by decide +kernel, rfl⟩
theorem d_m_bits_112 : DD b_m_bits 112 (.aload_n 0) 1 113 := ⟨by decide +kernel, rfl⟩
theorem d_m_bits_113 : DD b_m_bits 113 (.getfield 16) 3 116 := ⟨by decide +kernel, rfl⟩
theorem d_m_bits_116 : DD b_m_bits 116 (.iload 4) 2 118 := ⟨by decide +kernel, rfl⟩
theorem d_m_bits_118 : DD b_m_bits 118 .iaload 1 119 := ⟨by decide +kernel, rfl⟩
theorem d_m_bits_119 : DB b_m_bits 119 (.ifCond .ge 7) 7 122 126 := ⟨by decide +kernel, rfl, rfl⟩
theorem d_m_bits_122 : DD b_m_bits 122 (.iconst 1) 1 123 := ⟨by decide +kernel, rfl⟩
theorem d_m_bits_123 : DB b_m_bits 123 (.goto 4) 4 126 127 := ⟨by decide +kernel, rfl, rfl⟩
theorem d_m_bits_126 : DD b_m_bits 126 (.iconst 0) 1 127 := ⟨by decide +kernel, rfl⟩
theorem d_m_bits_127 : DD b_m_bits 127 (.invokestatic 128) 3 130 := ⟨by decide +kernel, rfl⟩
theorem d_m_bits_130 : DD b_m_bits 130 (.iconst 0) 1 131 := ⟨by decide +kernel, rfl⟩
theorem d_m_bits_131 : DD b_m_bits 131 (.istore 8) 2 133 := ⟨by decide +kernel, rfl⟩
theorem d_m_bits_133 : DD b_m_bits 133 (.iload 8) 2 135 := ⟨by decide +kernel, rfl⟩
theorem d_m_bits_135 : DD b_m_bits 135 (.iload 7) 2 137 := ⟨by decide +kernel, rfl⟩
theorem d_m_bits_137 : DB b_m_bits 137 (.if_icmp .ge 79) 79 140 216 := ⟨by decide +kernel, rfl, rfl⟩
theorem d_m_bits_140 : DD b_m_bits 140 (.aload_n 0) 1 141 := ⟨by decide +kernel, rfl⟩
theorem d_m_bits_141 : DD b_m_bits 141 (.getfield 28) 3 144 := ⟨by decide +kernel, rfl⟩
theorem d_m_bits_144 : DD b_m_bits 144 (.iload 8) 2 146 := ⟨by decide +kernel, rfl⟩
theorem d_m_bits_146 : DD b_m_bits 146 (.iload_n 1) 1 147 := ⟨by decide +kernel, rfl⟩
theorem d_m_bits_147 : DB b_m_bits 147 (.ifCond .ne 21) 21 150 168 := ⟨by decide +kernel, rfl, rfl⟩
theorem d_m_bits_150 : DD b_m_bits 150 (.aload_n 0) 1 151 := ⟨by decide +kernel, rfl⟩
theorem d_m_bits_151 : DD b_m_bits 151 (.getfield 22) 3 154 := ⟨by decide +kernel, rfl⟩
theorem d_m_bits_154 : DD b_m_bits 154 (.iload 8) 2 156 := ⟨by decide +kernel, rfl⟩
theorem d_m_bits_156 : DD b_m_bits 156 .iaload 1 157 := ⟨by decide +kernel, rfl⟩
theorem d_m_bits_157 : DD b_m_bits 157 (.aload_n 0) 1 158 := ⟨by decide +kernel, rfl⟩
theorem d_m_bits_158 : DD b_m_bits 158 (.getfield 25) 3 161 := ⟨by decide +kernel, rfl⟩
theorem d_m_bits_161 : DD b_m_bits 161 (.iload 8) 2 163 := ⟨by decide +kernel, rfl⟩
theorem d_m_bits_163 : DD b_m_bits 163 .iaload 1 164 := ⟨by decide +kernel, rfl⟩
theorem d_m_bits_164 : DD b_m_bits 164 .iand 1 165 := ⟨by decide +kernel, rfl⟩
theorem d_m_bits_165 : DB b_m_bits 165 (.goto 41) 41 168 206 := ⟨by decide +kernel, rfl, rfl⟩
theorem d_m_bits_168 : DD b_m_bits 168 (.iload_n 1) 1 169 := ⟨by decide +kernel, rfl⟩
theorem d_m_bits_169 : DD b_m_bits 169 (.iconst 1) 1 170 := ⟨by decide +kernel, rfl⟩
theorem d_m_bits_170 : DB b_m_bits 170 (.if_icmp .ne 21) 21 173 191 := ⟨by decide +kernel, rfl, rfl⟩
theorem d_m_bits_173 : DD b_m_bits 173 (.aload_n 0) 1 174 := ⟨by decide +kernel, rfl⟩
theorem d_m_bits_174 : DD b_m_bits 174 (.getfield 22) 3 177 := ⟨by decide +kernel, rfl⟩
theorem d_m_bits_177 : DD b_m_bits 177 (.iload 8) 2 179 := ⟨by decide +kernel, rfl⟩
theorem d_m_bits_179 : DD b_m_bits 179 .iaload 1 180 := ⟨by decide +kernel, rfl⟩
theorem d_m_bits_180 : DD b_m_bits 180 (.aload_n 0) 1 181 := ⟨by decide +kernel, rfl⟩
theorem d_m_bits_181 : DD b_m_bits 181 (.getfield 25) 3 184 := ⟨by decide +kernel, rfl⟩
theorem d_m_bits_184 : DD b_m_bits 184 (.iload 8) 2 186 := ⟨by decide +kernel, rfl⟩
theorem d_m_bits_186 : DD b_m_bits 186 .iaload 1 187 := ⟨by decide +kernel, rfl⟩
theorem d_m_bits_187 : DD b_m_bits 187 .ior 1 188 := ⟨by decide +kernel, rfl⟩
theorem d_m_bits_188 : DB b_m_bits 188 (.goto 18) 18 191 206 := ⟨by decide +kernel, rfl, rfl⟩
theorem d_m_bits_191 : DD b_m_bits 191 (.aload_n 0) 1 192 := ⟨by decide +kernel, rfl⟩
theorem d_m_bits_192 : DD b_m_bits 192 (.getfield 22) 3 195 := ⟨by decide +kernel, rfl⟩
theorem d_m_bits_195 : DD b_m_bits 195 (.iload 8) 2 197 := ⟨by decide +kernel, rfl⟩
theorem d_m_bits_197 : DD b_m_bits 197 .iaload 1 198 := ⟨by decide +kernel, rfl⟩
theorem d_m_bits_198 : DD b_m_bits 198 (.aload_n 0) 1 199 := ⟨by decide +kernel, rfl⟩
theorem d_m_bits_199 : DD b_m_bits 199 (.getfield 25) 3 202 := ⟨by decide +kernel, rfl⟩
theorem d_m_bits_202 : DD b_m_bits 202 (.iload 8) 2 204 := ⟨by decide +kernel, rfl⟩
theorem d_m_bits_204 : DD b_m_bits 204 .iaload 1 205 := ⟨by decide +kernel, rfl⟩
theorem d_m_bits_205 : DD b_m_bits 205 .ixor 1 206 := ⟨by decide +kernel, rfl⟩
theorem d_m_bits_206 : DD b_m_bits 206 (.ldc 53) 2 208 := ⟨by decide +kernel, rfl⟩
theorem d_m_bits_208 : DD b_m_bits 208 .iand 1 209 := ⟨by decide +kernel, rfl⟩
theorem d_m_bits_209 : DD b_m_bits 209 .iastore 1 210 := ⟨by decide +kernel, rfl⟩
theorem d_m_bits_210 : DD b_m_bits 210 (.iinc 8 1) 3 213 := ⟨by decide +kernel, rfl⟩
theorem d_m_bits_213 : DB b_m_bits 213 (.goto (-80)) (-80) 216 133 := ⟨by decide +kernel, rfl, rfl⟩
theorem d_m_bits_216 : DD b_m_bits 216 (.aload_n 0) 1 217 := ⟨by decide +kernel, rfl⟩
theorem d_m_bits_217 : DD b_m_bits 217 (.getfield 28) 3 220 := ⟨by decide +kernel, rfl⟩
theorem d_m_bits_220 : DD b_m_bits 220 (.iload 7) 2 222 := ⟨by decide +kernel, rfl⟩
theorem d_m_bits_222 : DD b_m_bits 222 (.iconst 1) 1 223 := ⟨by decide +kernel, rfl⟩
theorem d_m_bits_223 : DD b_m_bits 223 .isub 1 224 := ⟨by decide +kernel, rfl⟩
theorem d_m_bits_224 : DD b_m_bits 224 .iaload 1 225 := ⟨by decide +kernel, rfl⟩
theorem d_m_bits_225 : DD b_m_bits 225 (.ldc 67) 2 227 := ⟨by decide +kernel, rfl⟩
theorem d_m_bits_227 : DD b_m_bits 227 .iand 1 228 := ⟨by decide +kernel, rfl⟩
theorem d_m_bits_228 : DB b_m_bits 228 (.ifCond .eq 7) 7 231 235 := ⟨by decide +kernel, rfl, rfl⟩
theorem d_m_bits_231 : DD b_m_bits 231 (.iconst 1) 1 232 := ⟨by decide +kernel, rfl⟩
theorem d_m_bits_232 : DB b_m_bits 232 (.goto 4) 4 235 236 := ⟨by decide +kernel, rfl, rfl⟩
theorem d_m_bits_235 : DD b_m_bits 235 (.iconst 0) 1 236 := ⟨by decide +kernel, rfl⟩
theorem d_m_bits_236 : DD b_m_bits 236 (.istore 8) 2 238 := ⟨by decide +kernel, rfl⟩
theorem d_m_bits_238 : DD b_m_bits 238 (.aload_n 0) 1 239 := ⟨by decide +kernel, rfl⟩
theorem d_m_bits_239 : DD b_m_bits 239 (.getfield 28) 3 242 := ⟨by decide +kernel, rfl⟩
theorem d_m_bits_242 : DD b_m_bits 242 (.iload 7) 2 244 := ⟨by decide +kernel, rfl⟩
theorem d_m_bits_244 : DD b_m_bits 244 (.iload 7) 2 246 := ⟨by decide +kernel, rfl⟩
theorem d_m_bits_246 : DD b_m_bits 246 (.iload 8) 2 248 := ⟨by decide +kernel, rfl⟩
theorem d_m_bits_248 : DD b_m_bits 248 (.invokestatic 128) 3 251 := ⟨by decide +kernel, rfl⟩
theorem d_m_bits_251 : DD b_m_bits 251 (.aload_n 0) 1 252 := ⟨by decide +kernel, rfl⟩
theorem d_m_bits_252 : DD b_m_bits 252 (.iload_n 2) 1 253 := ⟨by decide +kernel, rfl⟩
theorem d_m_bits_253 : DD b_m_bits 253 (.iload 8) 2 255 := ⟨by decide +kernel, rfl⟩
theorem d_m_bits_255 : DB b_m_bits 255 (.ifCond .eq 7) 7 258 262 := ⟨by decide +kernel, rfl, rfl⟩
theorem d_m_bits_258 : DD b_m_bits 258 (.iconst (-1)) 1 259 := ⟨by decide +kernel, rfl⟩
theorem d_m_bits_259 : DB b_m_bits 259 (.goto 4) 4 262 263 := ⟨by decide +kernel, rfl, rfl⟩
theorem d_m_bits_262 : DD b_m_bits 262 (.iconst 1) 1 263 := ⟨by decide +kernel, rfl⟩
theorem d_m_bits_263 : DD b_m_bits 263 (.aload_n 0) 1 264 := ⟨by decide +kernel, rfl⟩
theorem d_m_bits_264 : DD b_m_bits 264 (.getfield 28) 3 267 := ⟨by decide +kernel, rfl⟩
theorem d_m_bits_267 : DD b_m_bits 267 (.iload 7) 2 269 := ⟨by decide +kernel, rfl⟩
theorem d_m_bits_269 : DD b_m_bits 269 (.iconst 2) 1 270 := ⟨by decide +kernel, rfl⟩
theorem d_m_bits_270 : DD b_m_bits 270 (.invokevirtual 91) 3 273 := ⟨by decide +kernel, rfl⟩
theorem d_m_bits_273 : DB b_m_bits 273 (.ifCond .eq 12) 12 276 285 := ⟨by decide +kernel, rfl, rfl⟩
theorem d_m_bits_276 : DD b_m_bits 276 (.aload_n 0) 1 277 := ⟨by decide +kernel, rfl⟩
theorem d_m_bits_277 : DD b_m_bits 277 (.getfield 16) 3 280 := ⟨by decide +kernel, rfl⟩
theorem d_m_bits_280 : DD b_m_bits 280 (.iload_n 2) 1 281 := ⟨by decide +kernel, rfl⟩
theorem d_m_bits_281 : DD b_m_bits 281 .iaload 1 282 := ⟨by decide +kernel, rfl⟩
theorem d_m_bits_282 : DB b_m_bits 282 (.goto 4) 4 285 286 := ⟨by decide +kernel, rfl, rfl⟩
theorem d_m_bits_285 : DD b_m_bits 285 (.iconst 0) 1 286 := ⟨by decide +kernel, rfl⟩
theorem d_m_bits_286 : DD b_m_bits 286 .ireturn 1 287 := ⟨by decide +kernel, rfl⟩
set_option maxRecDepth 20000 in
set_option maxHeartbeats 4000000 in
theorem c_m_bits (l : Launch) (G : ZG) {p0 p1 p2 p3 : Int} {σ : Mem} {K : Int → Mem → Prop} (h : wp_m_bits p0 p1 p2 p3 σ K) (h_p0 : okI p0) (h_p1 : okI p1) (h_p2 : okI p2) (h_p3 : okI p3) : Ct l G y_m_bits (.code y_m_bits b_m_bits 9 (some .int)) { frames := 2, cells := 0, slots := 0, locals := 50 } 0 0 1 [.ref (zA G 45), .int (iI p0), .int (iI p1), .int (iI p2), .int (iI p3)] σ K (fun _ _ => False) := by
  unfold wp_m_bits at h
  refine Ct.ofZ [(0, .ref (zA G 45)), (1, .int (iI p0)), (2, .int (iI p1)), (3, .int (iI p2)), (4, .int (iI p3))] "LimbDeskModel" (by decide) rfl (Nat.le_of_ble_eq_true rfl) rfl ?_
  intro E hR hlE C hr hX
  subst hlE
  have hroom_m_fails : 0 + 1 ≤ (zR E).frames ∧ 8 + (3 + 11) + 0 ≤ (zR E).locals ∧ 0 + 0 ≤ (zR E).cells ∧ 0 + 0 ≤ (zR E).slots := by rw [hR]; decide
  have hroom_m_in : 0 + 1 ≤ (zR E).frames ∧ 8 + (3 + 11) + 0 ≤ (zR E).locals ∧ 0 + 0 ≤ (zR E).cells ∧ 0 + 0 ≤ (zR E).slots := by rw [hR]; decide
  have hroom_m_isRegister : 1 + 1 ≤ (zR E).frames ∧ 8 + (1 + 11) + 22 ≤ (zR E).locals ∧ 0 + 0 ≤ (zR E).cells ∧ 0 + 0 ≤ (zR E).slots := by rw [hR]; decide
  have hroom_m_keep : 1 + 1 ≤ (zR E).frames ∧ 8 + (8 + 11) + 23 ≤ (zR E).locals ∧ 0 + 0 ≤ (zR E).cells ∧ 0 + 0 ≤ (zR E).slots := by rw [hR]; decide
  have hroom_m_load : 0 + 1 ≤ (zR E).frames ∧ 8 + (4 + 11) + 0 ≤ (zR E).locals ∧ 0 + 0 ≤ (zR E).cells ∧ 0 + 0 ≤ (zR E).slots := by rw [hR]; decide
  have hroom_m_twos : 0 + 1 ≤ (zR E).frames ∧ 8 + (6 + 11) + 0 ≤ (zR E).locals ∧ 0 + 0 ≤ (zR E).cells ∧ 0 + 0 ≤ (zR E).slots := by rw [hR]; decide
  clear hR
  obtain ⟨Q, hQ⟩ : ∃ Q, Q = MQX G (zb E) 1 K (fun _ _ => False) (zs E) 0 0 0 0 := ⟨_, rfl⟩
  show Z E G 9 0 0 (MQX G (zb E) 1 K (fun _ _ => False) (zs E) 0 0 0 0) σ 0 [(0, .ref (zA G 45)), (1, .int (iI p0)), (2, .int (iI p1)), (3, .int (iI p2)), (4, .int (iI p3))] []
  rw [← hQ]
  refine z_aload_n C 0 d_m_bits_0 rfl ?_
  refine z_iconst C d_m_bits_1 ?_
  refine z_mput_err C d_m_bits_2 k_460 ?_
  refine z_aload_n C 0 d_m_bits_5 rfl ?_
  refine z_iload_n C 1 d_m_bits_6 rfl ?_
  refine z_iconst C d_m_bits_7 ?_
  refine z_iconst C d_m_bits_8 ?_
  refine z_callS C [.int (iI p0), .int (iI 0), .int (iI 2)] [.ref (zA G 45)] 3 d_m_bits_9 (c_m_in (zl E) G h h_p0 (okI_lit rfl) (okI_lit rfl)) k_522 k_520 k_521 k_3 (by decide)  (by decide +kernel) rfl rfl (Nat.le_of_ble_eq_true rfl) hroom_m_in (fun r1 _s80 ok2 hq => ?_) (fun _ _ hx => hx.elim)
  obtain ⟨hs_, hk_⟩ := hq
  subst hs_
  have h := hk_
  refine Jq1.walk (fun s3 => okI s3 → Z E G 9 0 0 Q (mS σ 45 0 0) 42 [(0, .ref (zA G 45)), (1, .int (iI p0)), (2, .int (iI p1)), (3, .int (iI p2)), (4, .int (iI p3))] [.int (iI s3), .ref (zA G 45)]) h ?_ ?_
  · intro s3 h ok4
    refine z_iconst C d_m_bits_42 ?_
    refine z_callV C "LimbDeskModel" [.int (iI s3), .int (iI 1)] [] 2 d_m_bits_43 (c_m_fails (zl E) G h ok4 (okI_lit rfl)) k_526 k_523 k_525 k_s6 k_3 (by decide) (recv_M C) (by decide +kernel) rfl rfl (Nat.le_of_ble_eq_true rfl) hroom_m_fails (fun r6 σ7 ok8 hq => ?_) (fun _ _ hx => hx.elim)
    have h := hq
    refine z_if_eq C d_m_bits_46 (okI_b ok8) (fun hb9 => ?_) (fun hb9 => ?_)
    · have h := h.1 hb9
      refine z_aload_n C 0 d_m_bits_51 rfl ?_
      refine z_iload_n C 3 d_m_bits_52 rfl ?_
      refine z_aload_n C 0 d_m_bits_53 rfl ?_
      refine z_mget C 6 d_m_bits_54 (by decide) k_466 rfl rfl ?_
      refine z_callV C "LimbDeskModel" [.int (iI p2), .ref (zA G 50)] [] 2 d_m_bits_57 (c_m_load (zl E) G h h_p2 (Or.inr ⟨by decide, by decide⟩)) k_534 k_531 k_533 k_s8 k_3 (by decide) (recv_M C) (by decide +kernel) rfl rfl (Nat.le_of_ble_eq_true rfl) hroom_m_load (fun r10 σ11 ok12 hq => ?_) (fun _ _ hx => hx.elim)
      have h := hq
      refine z_istore C [(5, .int (iI r10)), (0, .ref (zA G 45)), (1, .int (iI p0)), (2, .int (iI p1)), (3, .int (iI p2)), (4, .int (iI p3))] d_m_bits_60 (by decide) rfl ?_
      refine z_aload_n C 1 d_m_bits_62 rfl ?_
      refine z_iload C 5 d_m_bits_63 rfl ?_
      refine z_aload_n C 1 d_m_bits_65 rfl ?_
      refine z_mget C 7 d_m_bits_66 (by decide) k_467 rfl rfl ?_
      refine z_callV C "LimbDeskModel" [.int (iI p3), .ref (zA G 51)] [] 2 d_m_bits_69 (c_m_load (zl E) G h h_p3 (Or.inr ⟨by decide, by decide⟩)) k_534 k_531 k_533 k_s8 k_3 (by decide) (recv_M C) (by decide +kernel) rfl rfl (Nat.le_of_ble_eq_true rfl) hroom_m_load (fun r13 σ14 ok15 hq => ?_) (fun _ _ hx => hx.elim)
      have h := hq
      refine z_istore C [(6, .int (iI r13)), (5, .int (iI r10)), (0, .ref (zA G 45)), (1, .int (iI p0)), (2, .int (iI p1)), (3, .int (iI p2)), (4, .int (iI p3))] d_m_bits_72 (by decide) rfl ?_
      refine z_sipush C d_m_bits_74 (by decide) ?_
      refine z_istore C [(7, .int (iI 131)), (6, .int (iI r13)), (5, .int (iI r10)), (0, .ref (zA G 45)), (1, .int (iI p0)), (2, .int (iI p1)), (3, .int (iI p2)), (4, .int (iI p3))] d_m_bits_77 (by decide) rfl ?_
      refine z_aload_n C 3 d_m_bits_79 rfl ?_
      refine z_mget C 6 d_m_bits_80 (by decide) k_466 rfl rfl ?_
      refine z_iload C 2 d_m_bits_83 rfl ?_
      refine z_iload C 0 d_m_bits_85 rfl ?_
      refine z_aload_n C 3 d_m_bits_87 rfl ?_
      refine z_mget C 4 d_m_bits_88 (by decide) k_464 rfl rfl ?_
      refine z_iload_n C 6 d_m_bits_91 rfl ?_
      obtain ⟨hc16, h⟩ := h
      refine z_ialdN C (16) d_m_bits_92 (Or.inr ⟨by decide, by decide⟩) (by decide) hc16 ?_
      obtain ⟨ok17, h⟩ := h
      have hj : ∀ s19 : Int, s19 = (if 0 ≤ (σ14 48 p2) then 0 else 1) → Z E G 9 0 0 Q σ14 101 [(7, .int (iI 131)), (6, .int (iI r13)), (5, .int (iI r10)), (0, .ref (zA G 45)), (1, .int (iI p0)), (2, .int (iI p1)), (3, .int (iI p2)), (4, .int (iI p3))] [.int (iI s19), .int (iI 131), .int (iI r10), .ref (zA G 50)] := by
        intro s19 e20
        have h := h s19 e20
        have ok21 : okI s19 := by rw [e20]; split; exact (okI_lit rfl); exact (okI_lit rfl)
        refine z_callS C [.ref (zA G 50), .int (iI r10), .int (iI 131), .int (iI s19)] [] 4 d_m_bits_101 (c_m_twos (zl E) G h (Or.inr ⟨by decide, by decide⟩) ok12 (okI_lit rfl) ok21) k_611 k_609 k_610 k_3 (by decide)  (by decide +kernel) rfl rfl (Nat.le_of_ble_eq_true rfl) hroom_m_twos (fun _r σ22 ok23 hq => ?_) (fun _ _ hx => hx.elim)
        have h := hq
        refine z_aload_n C 3 d_m_bits_104 rfl ?_
        refine z_mget C 7 d_m_bits_105 (by decide) k_467 rfl rfl ?_
        refine z_iload C 1 d_m_bits_108 rfl ?_
        refine z_iload C 0 d_m_bits_110 rfl ?_
        refine z_aload_n C 3 d_m_bits_112 rfl ?_
        refine z_mget C 4 d_m_bits_113 (by decide) k_464 rfl rfl ?_
        refine z_iload C 7 d_m_bits_116 rfl ?_
        obtain ⟨hc24, h⟩ := h
        refine z_ialdN C (16) d_m_bits_118 (Or.inr ⟨by decide, by decide⟩) (by decide) hc24 ?_
        obtain ⟨ok25, h⟩ := h
        have hj : ∀ s27 : Int, s27 = (if 0 ≤ (σ22 48 p3) then 0 else 1) → Z E G 9 0 0 Q σ22 127 [(7, .int (iI 131)), (6, .int (iI r13)), (5, .int (iI r10)), (0, .ref (zA G 45)), (1, .int (iI p0)), (2, .int (iI p1)), (3, .int (iI p2)), (4, .int (iI p3))] [.int (iI s27), .int (iI 131), .int (iI r13), .ref (zA G 51)] := by
          intro s27 e28
          have h := h s27 e28
          have ok29 : okI s27 := by rw [e28]; split; exact (okI_lit rfl); exact (okI_lit rfl)
          refine z_callS C [.ref (zA G 51), .int (iI r13), .int (iI 131), .int (iI s27)] [] 4 d_m_bits_127 (c_m_twos (zl E) G h (Or.inr ⟨by decide, by decide⟩) ok15 (okI_lit rfl) ok29) k_611 k_609 k_610 k_3 (by decide)  (by decide +kernel) rfl rfl (Nat.le_of_ble_eq_true rfl) hroom_m_twos (fun _r σ30 ok31 hq => ?_) (fun _ _ hx => hx.elim)
          have h := hq
          refine z_iconst C d_m_bits_130 ?_
          refine z_istore C [(8, .int (iI 0)), (7, .int (iI 131)), (6, .int (iI r13)), (5, .int (iI r10)), (0, .ref (zA G 45)), (1, .int (iI p0)), (2, .int (iI p1)), (3, .int (iI p2)), (4, .int (iI p3))] d_m_bits_131 (by decide) rfl ?_
          refine z_sub [(0, .ref (zA G 45)), (1, .int (iI p0)), (2, .int (iI p1)), (7, .int (iI 131)), (8, .int (iI 0))] [4, 5, 6, 1, 0] rfl ?_
          refine (Lo1.walk (P := fun v8_32 σ33 => okI v8_32 → Z E G 9 0 0 Q σ33 133 [(0, .ref (zA G 45)), (1, .int (iI p0)), (2, .int (iI p1)), (7, .int (iI 131)), (8, .int (iI v8_32))] []) ?_ h) (okI_lit rfl)
          intro v8_32 σ33 again35 Hagain35 h ok34
          refine z_iload C 4 d_m_bits_133 rfl ?_
          refine z_iload C 3 d_m_bits_135 rfl ?_
          refine z_icmp_ge C d_m_bits_137 ok34 (okI_lit rfl) (fun hb36 => ?_) (fun hb36 => ?_)
          · have h := h.1 hb36
            refine z_aload_n C 0 d_m_bits_216 rfl ?_
            refine z_mget C 8 d_m_bits_217 (by decide) k_468 rfl rfl ?_
            refine z_iload C 3 d_m_bits_220 rfl ?_
            refine z_iconst C d_m_bits_222 ?_
            refine z_isub C d_m_bits_223 ?_
            refine z_ialdN C (9000) d_m_bits_224 (Or.inr ⟨by decide, by decide⟩) (by decide) ⟨by decide, by decide⟩ ?_
            refine z_ldc C d_m_bits_225 k_594 (n := 32768) (by decide) ?_
            refine z_iand C d_m_bits_227 ?_
            have hj : ∀ s38 : Int, s38 = (if (anI (σ33 52 (131 - 1)) 32768) = 0 then 0 else 1) → Z E G 9 0 0 Q σ33 236 [(0, .ref (zA G 45)), (1, .int (iI p0)), (2, .int (iI p1)), (7, .int (iI 131)), (8, .int (iI v8_32))] [.int (iI s38)] := by
              intro s38 e39
              have h := h s38 e39
              have ok40 : okI s38 := by rw [e39]; split; exact (okI_lit rfl); exact (okI_lit rfl)
              refine z_istore C [(8, .int (iI s38)), (0, .ref (zA G 45)), (1, .int (iI p0)), (2, .int (iI p1)), (7, .int (iI 131))] d_m_bits_236 (by decide) rfl ?_
              refine z_aload_n C 1 d_m_bits_238 rfl ?_
              refine z_mget C 8 d_m_bits_239 (by decide) k_468 rfl rfl ?_
              refine z_iload C 4 d_m_bits_242 rfl ?_
              refine z_iload C 4 d_m_bits_244 rfl ?_
              refine z_iload C 0 d_m_bits_246 rfl ?_
              refine z_callS C [.ref (zA G 52), .int (iI 131), .int (iI 131), .int (iI s38)] [] 4 d_m_bits_248 (c_m_twos (zl E) G h (Or.inr ⟨by decide, by decide⟩) (okI_lit rfl) (okI_lit rfl) ok40) k_611 k_609 k_610 k_3 (by decide)  (by decide +kernel) rfl rfl (Nat.le_of_ble_eq_true rfl) hroom_m_twos (fun _r σ41 ok42 hq => ?_) (fun _ _ hx => hx.elim)
              have h := hq
              refine z_aload_n C 1 d_m_bits_251 rfl ?_
              refine z_iload_n C 3 d_m_bits_252 rfl ?_
              refine z_iload C 0 d_m_bits_253 rfl ?_
              have hj : ∀ s44 : Int, s44 = (if s38 = 0 then 1 else (-1)) → Z E G 9 0 0 Q σ41 263 [(8, .int (iI s38)), (0, .ref (zA G 45)), (1, .int (iI p0)), (2, .int (iI p1)), (7, .int (iI 131))] [.int (iI s44), .int (iI p1), .ref (zA G 45)] := by
                intro s44 e45
                have h := h s44 e45
                have ok46 : okI s44 := by rw [e45]; split; exact (okI_lit rfl); exact (okI_lit rfl)
                refine z_aload_n C 1 d_m_bits_263 rfl ?_
                refine z_mget C 8 d_m_bits_264 (by decide) k_468 rfl rfl ?_
                refine z_iload C 4 d_m_bits_267 rfl ?_
                refine z_iconst C d_m_bits_269 ?_
                refine z_callV C "LimbDeskModel" [.int (iI p1), .int (iI s44), .ref (zA G 52), .int (iI 131), .int (iI 2)] [] 5 d_m_bits_270 (c_m_keep (zl E) G h h_p1 ok46 (Or.inr ⟨by decide, by decide⟩) (okI_lit rfl) (okI_lit rfl)) k_542 k_539 k_541 k_s9 k_3 (by decide) (recv_M C) (by decide +kernel) rfl rfl (Nat.le_of_ble_eq_true rfl) hroom_m_keep (fun r47 σ48 ok49 hq => ?_) (fun _ _ hx => hx.elim)
                have h := hq
                obtain ⟨ha54, h⟩ := h
                have hj : ∀ s52 : Int, s52 = (if r47 = 0 then 0 else (σ48 48 p1)) → Z E G 9 0 0 Q σ48 286 [(8, .int (iI s38)), (0, .ref (zA G 45)), (1, .int (iI p0)), (2, .int (iI p1)), (7, .int (iI 131))] [.int (iI s52)] := by
                  intro s52 e53
                  have h := h s52 e53
                  obtain ⟨ok55, h⟩ := h
                  subst hQ
                  exact z_ireturn C d_m_bits_286.1 hr ⟨Nat.zero_le _, Nat.zero_le _⟩ ok55 h
                clear h
                refine z_if_eq C d_m_bits_273 (okI_b ok49) (fun hb50 => ?_) (fun hb50 => ?_)
                · refine z_iconst C d_m_bits_285 ?_
                  exact hj _ (if_pos hb50).symm
                · have h := ha54 hb50
                  refine z_aload_n C 1 d_m_bits_276 rfl ?_
                  refine z_mget C 4 d_m_bits_277 (by decide) k_464 rfl rfl ?_
                  refine z_iload_n C 3 d_m_bits_280 rfl ?_
                  obtain ⟨hc51, h⟩ := h
                  refine z_ialdN C (16) d_m_bits_281 (Or.inr ⟨by decide, by decide⟩) (by decide) hc51 ?_
                  refine z_goto C d_m_bits_282 ?_
                  exact hj _ (if_neg hb50).symm
              clear h
              refine z_if_eq C d_m_bits_255 ok40 (fun hb43 => ?_) (fun hb43 => ?_)
              · refine z_iconst C d_m_bits_262 ?_
                exact hj _ (if_pos hb43).symm
              · refine z_iconst C d_m_bits_258 ?_
                refine z_goto C d_m_bits_259 ?_
                exact hj _ (if_neg hb43).symm
            clear h
            refine z_if_eq C d_m_bits_228 (okI_an _ _) (fun hb37 => ?_) (fun hb37 => ?_)
            · refine z_iconst C d_m_bits_235 ?_
              exact hj _ (if_pos hb37).symm
            · refine z_iconst C d_m_bits_231 ?_
              refine z_goto C d_m_bits_232 ?_
              exact hj _ (if_neg hb37).symm
          · have h := h.2 hb36
            refine z_aload_n C 0 d_m_bits_140 rfl ?_
            refine z_mget C 8 d_m_bits_141 (by decide) k_468 rfl rfl ?_
            refine z_iload C 4 d_m_bits_144 rfl ?_
            refine z_iload_n C 1 d_m_bits_146 rfl ?_
            refine Jq1.walk (fun s56 => okI s56 → Z E G 9 0 0 Q σ33 206 [(0, .ref (zA G 45)), (1, .int (iI p0)), (2, .int (iI p1)), (7, .int (iI 131)), (8, .int (iI v8_32))] [.int (iI s56), .int (iI v8_32), .ref (zA G 52)]) h ?_ ?_
            · intro s56 h ok57
              refine z_ldc C d_m_bits_206 k_579 (n := 65535) (by decide) ?_
              refine z_imask C 16 65536 d_m_bits_208 (by decide) (by decide) (by decide) ?_
              obtain ⟨hc59, h⟩ := h
              refine z_iastN C (9000) d_m_bits_209 (Or.inr ⟨by decide, by decide⟩) (by decide) hc59 ?_
              refine z_iinc C 4 [(8, .int (iI (v8_32 + 1))), (0, .ref (zA G 45)), (1, .int (iI p0)), (2, .int (iI p1)), (7, .int (iI 131))] d_m_bits_210 rfl (by decide) rfl ?_
              refine z_goto C d_m_bits_213 ?_
              obtain ⟨ok60, h⟩ := h
              refine z_sub [(0, .ref (zA G 45)), (1, .int (iI p0)), (2, .int (iI p1)), (7, .int (iI 131)), (8, .int (iI (v8_32 + 1)))] [1, 2, 3, 4, 0] rfl ?_
              exact Hagain35 _ _ h ok60
            · intro J58 HJ58 h
              refine z_if_ne C d_m_bits_147 h_p0 (fun hb61 => ?_) (fun hb61 => ?_)
              · have h := h.1 hb61
                refine z_iload_n C 1 d_m_bits_168 rfl ?_
                refine z_iconst C d_m_bits_169 ?_
                refine z_icmp_ne C d_m_bits_170 h_p0 (okI_lit rfl) (fun hb62 => ?_) (fun hb62 => ?_)
                · have h := h.1 hb62
                  refine z_aload_n C 0 d_m_bits_191 rfl ?_
                  refine z_mget C 6 d_m_bits_192 (by decide) k_466 rfl rfl ?_
                  refine z_iload C 4 d_m_bits_195 rfl ?_
                  obtain ⟨hc63, h⟩ := h
                  refine z_ialdN C (9000) d_m_bits_197 (Or.inr ⟨by decide, by decide⟩) (by decide) hc63 ?_
                  refine z_aload_n C 0 d_m_bits_198 rfl ?_
                  refine z_mget C 7 d_m_bits_199 (by decide) k_467 rfl rfl ?_
                  refine z_iload C 4 d_m_bits_202 rfl ?_
                  refine z_ialdN C (9000) d_m_bits_204 (Or.inr ⟨by decide, by decide⟩) (by decide) hc63 ?_
                  refine z_ixor C d_m_bits_205 ?_
                  refine z_sub [(0, .ref (zA G 45)), (1, .int (iI p0)), (2, .int (iI p1)), (7, .int (iI 131)), (8, .int (iI v8_32))] [0, 1, 2, 3, 4] rfl ?_
                  exact HJ58 _ h (okI_xo _ _)
                · have h := h.2 hb62
                  refine z_aload_n C 0 d_m_bits_173 rfl ?_
                  refine z_mget C 6 d_m_bits_174 (by decide) k_466 rfl rfl ?_
                  refine z_iload C 4 d_m_bits_177 rfl ?_
                  obtain ⟨hc64, h⟩ := h
                  refine z_ialdN C (9000) d_m_bits_179 (Or.inr ⟨by decide, by decide⟩) (by decide) hc64 ?_
                  refine z_aload_n C 0 d_m_bits_180 rfl ?_
                  refine z_mget C 7 d_m_bits_181 (by decide) k_467 rfl rfl ?_
                  refine z_iload C 4 d_m_bits_184 rfl ?_
                  refine z_ialdN C (9000) d_m_bits_186 (Or.inr ⟨by decide, by decide⟩) (by decide) hc64 ?_
                  refine z_ior C d_m_bits_187 ?_
                  refine z_goto C d_m_bits_188 ?_
                  refine z_sub [(0, .ref (zA G 45)), (1, .int (iI p0)), (2, .int (iI p1)), (7, .int (iI 131)), (8, .int (iI v8_32))] [0, 1, 2, 3, 4] rfl ?_
                  exact HJ58 _ h (okI_or _ _)
              · have h := h.2 hb61
                refine z_aload_n C 0 d_m_bits_150 rfl ?_
                refine z_mget C 6 d_m_bits_151 (by decide) k_466 rfl rfl ?_
                refine z_iload C 4 d_m_bits_154 rfl ?_
                obtain ⟨hc65, h⟩ := h
                refine z_ialdN C (9000) d_m_bits_156 (Or.inr ⟨by decide, by decide⟩) (by decide) hc65 ?_
                refine z_aload_n C 0 d_m_bits_157 rfl ?_
                refine z_mget C 7 d_m_bits_158 (by decide) k_467 rfl rfl ?_
                refine z_iload C 4 d_m_bits_161 rfl ?_
                refine z_ialdN C (9000) d_m_bits_163 (Or.inr ⟨by decide, by decide⟩) (by decide) hc65 ?_
                refine z_iand C d_m_bits_164 ?_
                refine z_goto C d_m_bits_165 ?_
                refine z_sub [(0, .ref (zA G 45)), (1, .int (iI p0)), (2, .int (iI p1)), (7, .int (iI 131)), (8, .int (iI v8_32))] [0, 1, 2, 3, 4] rfl ?_
                exact HJ58 _ h (okI_an _ _)
        clear h
        refine z_if_ge C d_m_bits_119 ok25 (fun hb26 => ?_) (fun hb26 => ?_)
        · refine z_iconst C d_m_bits_126 ?_
          exact hj _ (if_pos hb26).symm
        · refine z_iconst C d_m_bits_122 ?_
          refine z_goto C d_m_bits_123 ?_
          exact hj _ (if_neg (Int.not_le.mpr hb26)).symm
      clear h
      refine z_if_ge C d_m_bits_93 ok17 (fun hb18 => ?_) (fun hb18 => ?_)
      · refine z_iconst C d_m_bits_100 ?_
        exact hj _ (if_pos hb18).symm
      · refine z_iconst C d_m_bits_96 ?_
        refine z_goto C d_m_bits_97 ?_
        exact hj _ (if_neg (Int.not_le.mpr hb18)).symm
    · have h := h.2 hb9
      refine z_iconst C d_m_bits_49 ?_
      subst hQ
      exact z_ireturn C d_m_bits_50.1 hr ⟨Nat.zero_le _, Nat.zero_le _⟩ (okI_lit rfl) h
  · intro J5 HJ5 h
    refine Jq0.walk (Z E G 9 0 0 Q (mS σ 45 0 0) 37 [(0, .ref (zA G 45)), (1, .int (iI p0)), (2, .int (iI p1)), (3, .int (iI p2)), (4, .int (iI p3))] [.ref (zA G 45)]) h ?_ ?_
    · intro h
      refine z_iconst C d_m_bits_37 ?_
      refine z_goto C d_m_bits_38 ?_
      refine z_sub [(0, .ref (zA G 45)), (1, .int (iI p0)), (2, .int (iI p1)), (3, .int (iI p2)), (4, .int (iI p3))] [0, 1, 2, 3, 4] rfl ?_
      exact HJ5 _ h (okI_lit rfl)
    · intro J66 HJ66 h
      refine z_if_eq C d_m_bits_12 (okI_b ok2) (fun hb67 => ?_) (fun hb67 => ?_)
      · have h := h.1 hb67
        refine z_sub [(0, .ref (zA G 45)), (1, .int (iI p0)), (2, .int (iI p1)), (3, .int (iI p2)), (4, .int (iI p3))] [0, 1, 2, 3, 4] rfl ?_
        exact HJ66 h
      · have h := h.2 hb67
        refine z_iload_n C 2 d_m_bits_15 rfl ?_
        refine z_callS C [.int (iI p1)] [.ref (zA G 45)] 1 d_m_bits_16 (c_m_isRegister (zl E) G h h_p1) k_519 k_517 k_518 k_3 (by decide)  (by decide +kernel) rfl rfl (Nat.le_of_ble_eq_true rfl) hroom_m_isRegister (fun r68 _s79 ok69 hq => ?_) (fun _ _ hx => hx.elim)
        obtain ⟨hs_, hk_⟩ := hq
        subst hs_
        have h := hk_
        refine z_if_eq C d_m_bits_19 (okI_b ok69) (fun hb70 => ?_) (fun hb70 => ?_)
        · have h := h.1 hb70
          refine z_sub [(0, .ref (zA G 45)), (1, .int (iI p0)), (2, .int (iI p1)), (3, .int (iI p2)), (4, .int (iI p3))] [0, 1, 2, 3, 4] rfl ?_
          exact HJ66 h
        · have h := h.2 hb70
          refine z_iload_n C 3 d_m_bits_22 rfl ?_
          refine z_callS C [.int (iI p2)] [.ref (zA G 45)] 1 d_m_bits_23 (c_m_isRegister (zl E) G h h_p2) k_519 k_517 k_518 k_3 (by decide)  (by decide +kernel) rfl rfl (Nat.le_of_ble_eq_true rfl) hroom_m_isRegister (fun r71 _s78 ok72 hq => ?_) (fun _ _ hx => hx.elim)
          obtain ⟨hs_, hk_⟩ := hq
          subst hs_
          have h := hk_
          refine z_if_eq C d_m_bits_26 (okI_b ok72) (fun hb73 => ?_) (fun hb73 => ?_)
          · have h := h.1 hb73
            refine z_sub [(0, .ref (zA G 45)), (1, .int (iI p0)), (2, .int (iI p1)), (3, .int (iI p2)), (4, .int (iI p3))] [0, 1, 2, 3, 4] rfl ?_
            exact HJ66 h
          · have h := h.2 hb73
            refine z_iload C 4 d_m_bits_29 rfl ?_
            refine z_callS C [.int (iI p3)] [.ref (zA G 45)] 1 d_m_bits_31 (c_m_isRegister (zl E) G h h_p3) k_519 k_517 k_518 k_3 (by decide)  (by decide +kernel) rfl rfl (Nat.le_of_ble_eq_true rfl) hroom_m_isRegister (fun r74 _s77 ok75 hq => ?_) (fun _ _ hx => hx.elim)
            obtain ⟨hs_, hk_⟩ := hq
            subst hs_
            have h := hk_
            refine z_if_ne C d_m_bits_34 (okI_b ok75) (fun hb76 => ?_) (fun hb76 => ?_)
            · have h := h.1 hb76
              refine z_iconst C d_m_bits_41 ?_
              refine z_sub [(0, .ref (zA G 45)), (1, .int (iI p0)), (2, .int (iI p1)), (3, .int (iI p2)), (4, .int (iI p3))] [0, 1, 2, 3, 4] rfl ?_
              exact HJ5 _ h (okI_lit rfl)
            · have h := h.2 hb76
              refine z_sub [(0, .ref (zA G 45)), (1, .int (iI p0)), (2, .int (iI p1)), (3, .int (iI p2)), (4, .int (iI p3))] [0, 1, 2, 3, 4] rfl ?_
              exact HJ66 h
