/-! Walks, printed by gen/gen.py. -/
theorem d_jI_nlz_0 : DD b_jI_nlz 0 (.iload_n 0) 1 1 := ⟨by decide +kernel, rfl⟩
theorem d_jI_nlz_1 : DB b_jI_nlz 1 (.ifCond .gt 14) 14 4 15 := ⟨by decide +kernel, rfl, rfl⟩
theorem d_jI_nlz_4 : DD b_jI_nlz 4 (.iload_n 0) 1 5 := ⟨by decide +kernel, rfl⟩
theorem d_jI_nlz_5 : DB b_jI_nlz 5 (.ifCond .ne 8) 8 8 13 := ⟨by decide +kernel, rfl, rfl⟩
theorem d_jI_nlz_8 : DD b_jI_nlz 8 (.bipush 32) 2 10 := ⟨by decide +kernel, rfl⟩
theorem d_jI_nlz_10 : DB b_jI_nlz 10 (.goto 4) 4 13 14 := ⟨by decide +kernel, rfl, rfl⟩
theorem d_jI_nlz_13 : DD b_jI_nlz 13 (.iconst 0) 1 14 := ⟨by decide +kernel, rfl⟩
theorem d_jI_nlz_14 : DD b_jI_nlz 14 .ireturn 1 15 := ⟨by decide +kernel, rfl⟩
theorem d_jI_nlz_15 : DD b_jI_nlz 15 (.bipush 31) 2 17 := ⟨by decide +kernel, rfl⟩
theorem d_jI_nlz_17 : DD b_jI_nlz 17 (.istore_n 1) 1 18 := ⟨by decide +kernel, rfl⟩
theorem d_jI_nlz_18 : DD b_jI_nlz 18 (.iload_n 0) 1 19 := ⟨by decide +kernel, rfl⟩
theorem d_jI_nlz_19 : DD b_jI_nlz 19 (.ldc_w 264) 3 22 := ⟨by decide +kernel, rfl⟩
theorem d_jI_nlz_22 : DB b_jI_nlz 22 (.if_icmp .lt 11) 11 25 33 := ⟨by decide +kernel, rfl, rfl⟩
theorem d_jI_nlz_25 : DD b_jI_nlz 25 (.iinc 1 (-16)) 3 28 := ⟨by decide +kernel, rfl⟩
theorem d_jI_nlz_28 : DD b_jI_nlz 28 (.iload_n 0) 1 29 := ⟨by decide +kernel, rfl⟩
theorem d_jI_nlz_29 : DD b_jI_nlz 29 (.bipush 16) 2 31 := ⟨by decide +kernel, rfl⟩
theorem d_jI_nlz_31 : DD b_jI_nlz 31 .iushr 1 32 := ⟨by decide +kernel, rfl⟩
theorem d_jI_nlz_32 : DD b_jI_nlz 32 (.istore_n 0) 1 33 := ⟨by decide +kernel, rfl⟩
theorem d_jI_nlz_33 : DD b_jI_nlz 33 (.iload_n 0) 1 34 := ⟨by decide +kernel, rfl⟩
theorem d_jI_nlz_34 : DD b_jI_nlz 34 (.sipush 256) 3 37 := ⟨by decide +kernel, rfl⟩
theorem d_jI_nlz_37 : DB b_jI_nlz 37 (.if_icmp .lt 11) 11 40 48 := ⟨by decide +kernel, rfl, rfl⟩
theorem d_jI_nlz_40 : DD b_jI_nlz 40 (.iinc 1 (-8)) 3 43 := ⟨by decide +kernel, rfl⟩
theorem d_jI_nlz_43 : DD b_jI_nlz 43 (.iload_n 0) 1 44 := ⟨by decide +kernel, rfl⟩
theorem d_jI_nlz_44 : DD b_jI_nlz 44 (.bipush 8) 2 46 := ⟨by decide +kernel, rfl⟩
theorem d_jI_nlz_46 : DD b_jI_nlz 46 .iushr 1 47 := ⟨by decide +kernel, rfl⟩
theorem d_jI_nlz_47 : DD b_jI_nlz 47 (.istore_n 0) 1 48 := ⟨by decide +kernel, rfl⟩
theorem d_jI_nlz_48 : DD b_jI_nlz 48 (.iload_n 0) 1 49 := ⟨by decide +kernel, rfl⟩
theorem d_jI_nlz_49 : DD b_jI_nlz 49 (.bipush 16) 2 51 := ⟨by decide +kernel, rfl⟩
theorem d_jI_nlz_51 : DB b_jI_nlz 51 (.if_icmp .lt 10) 10 54 61 := ⟨by decide +kernel, rfl, rfl⟩
theorem d_jI_nlz_54 : DD b_jI_nlz 54 (.iinc 1 (-4)) 3 57 := ⟨by decide +kernel, rfl⟩
theorem d_jI_nlz_57 : DD b_jI_nlz 57 (.iload_n 0) 1 58 := ⟨by decide +kernel, rfl⟩
theorem d_jI_nlz_58 : DD b_jI_nlz 58 (.iconst 4) 1 59 := ⟨by decide +kernel, rfl⟩
theorem d_jI_nlz_59 : DD b_jI_nlz 59 .iushr 1 60 := ⟨by decide +kernel, rfl⟩
theorem d_jI_nlz_60 : DD b_jI_nlz 60 (.istore_n 0) 1 61 := ⟨by decide +kernel, rfl⟩
theorem d_jI_nlz_61 : DD b_jI_nlz 61 (.iload_n 0) 1 62 := ⟨by decide +kernel, rfl⟩
theorem d_jI_nlz_62 : DD b_jI_nlz 62 (.iconst 4) 1 63 := ⟨by decide +kernel, rfl⟩
theorem d_jI_nlz_63 : DB b_jI_nlz 63 (.if_icmp .lt 10) 10 66 73 := ⟨by decide +kernel, rfl, rfl⟩
theorem d_jI_nlz_66 : DD b_jI_nlz 66 (.iinc 1 (-2)) 3 69 := ⟨by decide +kernel, rfl⟩
theorem d_jI_nlz_69 : DD b_jI_nlz 69 (.iload_n 0) 1 70 := ⟨by decide +kernel, rfl⟩
theorem d_jI_nlz_70 : DD b_jI_nlz 70 (.iconst 2) 1 71 := ⟨by decide +kernel, rfl⟩
theorem d_jI_nlz_71 : DD b_jI_nlz 71 .iushr 1 72 := ⟨by decide +kernel, rfl⟩
theorem d_jI_nlz_72 : DD b_jI_nlz 72 (.istore_n 0) 1 73 := ⟨by decide +kernel, rfl⟩
theorem d_jI_nlz_73 : DD b_jI_nlz 73 (.iload_n 1) 1 74 := ⟨by decide +kernel, rfl⟩
theorem d_jI_nlz_74 : DD b_jI_nlz 74 (.iload_n 0) 1 75 := ⟨by decide +kernel, rfl⟩
theorem d_jI_nlz_75 : DD b_jI_nlz 75 (.iconst 1) 1 76 := ⟨by decide +kernel, rfl⟩
theorem d_jI_nlz_76 : DD b_jI_nlz 76 .iushr 1 77 := ⟨by decide +kernel, rfl⟩
theorem d_jI_nlz_77 : DD b_jI_nlz 77 .isub 1 78 := ⟨by decide +kernel, rfl⟩
theorem d_jI_nlz_78 : DD b_jI_nlz 78 .ireturn 1 79 := ⟨by decide +kernel, rfl⟩
set_option maxRecDepth 20000 in
set_option maxHeartbeats 4000000 in
theorem c_jI_nlz (l : Launch) (G : ZG) {p0 : Int} {σ : Mem} {K : Int → Prop} (h : wp_jI_nlz p0 σ K) (h_p0 : okI p0) : Ct l G y_jI_nlz (.code y_jI_nlz b_jI_nlz 2 (some .int)) { frames := 0, cells := 0, slots := 0, locals := 0 } 0 0 1 [.int (iI p0)] σ (fun r σ1 => σ = σ1 ∧ K r) (fun _ _ => False) := by
  unfold wp_jI_nlz at h
  refine Ct.ofZ [(0, .int (iI p0))] "java/lang/Integer" (by decide) rfl (Nat.le_of_ble_eq_true rfl) rfl ?_
  intro E hR hlE C hr hX
  subst hlE
  clear hR
  obtain ⟨Q, hQ⟩ : ∃ Q, Q = MQX G (zb E) 1 (fun r σ1 => σ = σ1 ∧ K r) (fun _ _ => False) (zs E) 0 0 0 0 := ⟨_, rfl⟩
  show Z E G 2 0 0 (MQX G (zb E) 1 (fun r σ1 => σ = σ1 ∧ K r) (fun _ _ => False) (zs E) 0 0 0 0) σ 0 [(0, .int (iI p0))] []
  rw [← hQ]
  refine z_iload_n C 0 d_jI_nlz_0 rfl ?_
  refine z_if_gt C d_jI_nlz_1 h_p0 (fun hb1 => ?_) (fun hb1 => ?_)
  · have h := h.1 hb1
    refine z_bipush C d_jI_nlz_15 (by decide) ?_
    refine z_istore_n C [(1, .int (iI 31)), (0, .int (iI p0))] d_jI_nlz_17 (by decide) rfl ?_
    refine z_iload_n C 1 d_jI_nlz_18 rfl ?_
    refine z_ldcw C d_jI_nlz_19 k_159 (n := 65536) (by decide) ?_
    refine Jq2.walk (fun v0_2 v1_3 => okI v0_2 → okI v1_3 → Z E G 2 0 0 Q σ 33 [(0, .int (iI v0_2)), (1, .int (iI v1_3))] []) h ?_ ?_
    · intro v0_2 v1_3 h ok4 ok5
      refine z_iload_n C 0 d_jI_nlz_33 rfl ?_
      refine z_sipush C d_jI_nlz_34 (by decide) ?_
      refine Jq2.walk (fun v0_7 v1_8 => okI v0_7 → okI v1_8 → Z E G 2 0 0 Q σ 48 [(0, .int (iI v0_7)), (1, .int (iI v1_8))] []) h ?_ ?_
      · intro v0_7 v1_8 h ok9 ok10
        refine z_iload_n C 0 d_jI_nlz_48 rfl ?_
        refine z_bipush C d_jI_nlz_49 (by decide) ?_
        refine Jq2.walk (fun v0_12 v1_13 => okI v0_12 → okI v1_13 → Z E G 2 0 0 Q σ 61 [(0, .int (iI v0_12)), (1, .int (iI v1_13))] []) h ?_ ?_
        · intro v0_12 v1_13 h ok14 ok15
          refine z_iload_n C 0 d_jI_nlz_61 rfl ?_
          refine z_iconst C d_jI_nlz_62 ?_
          refine Jq2.walk (fun v0_17 v1_18 => okI v0_17 → okI v1_18 → Z E G 2 0 0 Q σ 73 [(0, .int (iI v0_17)), (1, .int (iI v1_18))] []) h ?_ ?_
          · intro v0_17 v1_18 h ok19 ok20
            refine z_iload_n C 1 d_jI_nlz_73 rfl ?_
            refine z_iload_n C 0 d_jI_nlz_74 rfl ?_
            refine z_iconst C d_jI_nlz_75 ?_
            obtain ⟨hc22, h⟩ := h
            refine z_iushrK C 2 d_jI_nlz_76 (by decide) hc22 ⟨by decide, by decide⟩ ?_
            refine z_isub C d_jI_nlz_77 ?_
            obtain ⟨ok23, h⟩ := h
            subst hQ
            exact z_ireturn C d_jI_nlz_78.1 hr ⟨Nat.zero_le _, Nat.zero_le _⟩ ok23 ⟨rfl, h⟩
          · intro J21 HJ21 h
            refine z_icmp_lt C d_jI_nlz_63 ok14 (okI_lit rfl) (fun hb24 => ?_) (fun hb24 => ?_)
            · have h := h.1 hb24
              refine z_sub [(0, .int (iI v0_12)), (1, .int (iI v1_13))] [0, 1] rfl ?_
              exact HJ21 _ _ h ok14 ok15
            · have h := h.2 hb24
              refine z_iinc C 1 [(1, .int (iI (v1_13 + (-2)))), (0, .int (iI v0_12))] d_jI_nlz_66 rfl (by decide) rfl ?_
              refine z_iload_n C 1 d_jI_nlz_69 rfl ?_
              refine z_iconst C d_jI_nlz_70 ?_
              obtain ⟨hc25, h⟩ := h
              refine z_iushrK C 4 d_jI_nlz_71 (by decide) hc25 ⟨by decide, by decide⟩ ?_
              refine z_namei (fun v0_26 e27 => ?_)
              have h := h v0_26 e27
              refine z_istore_n C [(0, .int (iI v0_26)), (1, .int (iI (v1_13 + (-2))))] d_jI_nlz_72 (by decide) rfl ?_
              obtain ⟨ok28, h⟩ := h
              obtain ⟨ok29, h⟩ := h
              refine z_sub [(0, .int (iI v0_26)), (1, .int (iI (v1_13 + (-2))))] [0, 1] rfl ?_
              exact HJ21 _ _ h ok28 ok29
        · intro J16 HJ16 h
          refine z_icmp_lt C d_jI_nlz_51 ok9 (okI_lit rfl) (fun hb30 => ?_) (fun hb30 => ?_)
          · have h := h.1 hb30
            refine z_sub [(0, .int (iI v0_7)), (1, .int (iI v1_8))] [0, 1] rfl ?_
            exact HJ16 _ _ h ok9 ok10
          · have h := h.2 hb30
            refine z_iinc C 1 [(1, .int (iI (v1_8 + (-4)))), (0, .int (iI v0_7))] d_jI_nlz_54 rfl (by decide) rfl ?_
            refine z_iload_n C 1 d_jI_nlz_57 rfl ?_
            refine z_iconst C d_jI_nlz_58 ?_
            obtain ⟨hc31, h⟩ := h
            refine z_iushrK C 16 d_jI_nlz_59 (by decide) hc31 ⟨by decide, by decide⟩ ?_
            refine z_namei (fun v0_32 e33 => ?_)
            have h := h v0_32 e33
            refine z_istore_n C [(0, .int (iI v0_32)), (1, .int (iI (v1_8 + (-4))))] d_jI_nlz_60 (by decide) rfl ?_
            obtain ⟨ok34, h⟩ := h
            obtain ⟨ok35, h⟩ := h
            refine z_sub [(0, .int (iI v0_32)), (1, .int (iI (v1_8 + (-4))))] [0, 1] rfl ?_
            exact HJ16 _ _ h ok34 ok35
      · intro J11 HJ11 h
        refine z_icmp_lt C d_jI_nlz_37 ok4 (okI_lit rfl) (fun hb36 => ?_) (fun hb36 => ?_)
        · have h := h.1 hb36
          refine z_sub [(0, .int (iI v0_2)), (1, .int (iI v1_3))] [0, 1] rfl ?_
          exact HJ11 _ _ h ok4 ok5
        · have h := h.2 hb36
          refine z_iinc C 1 [(1, .int (iI (v1_3 + (-8)))), (0, .int (iI v0_2))] d_jI_nlz_40 rfl (by decide) rfl ?_
          refine z_iload_n C 1 d_jI_nlz_43 rfl ?_
          refine z_bipush C d_jI_nlz_44 (by decide) ?_
          obtain ⟨hc37, h⟩ := h
          refine z_iushrK C 256 d_jI_nlz_46 (by decide) hc37 ⟨by decide, by decide⟩ ?_
          refine z_namei (fun v0_38 e39 => ?_)
          have h := h v0_38 e39
          refine z_istore_n C [(0, .int (iI v0_38)), (1, .int (iI (v1_3 + (-8))))] d_jI_nlz_47 (by decide) rfl ?_
          obtain ⟨ok40, h⟩ := h
          obtain ⟨ok41, h⟩ := h
          refine z_sub [(0, .int (iI v0_38)), (1, .int (iI (v1_3 + (-8))))] [0, 1] rfl ?_
          exact HJ11 _ _ h ok40 ok41
    · intro J6 HJ6 h
      refine z_icmp_lt C d_jI_nlz_22 h_p0 (okI_lit rfl) (fun hb42 => ?_) (fun hb42 => ?_)
      · have h := h.1 hb42
        refine z_sub [(0, .int (iI p0)), (1, .int (iI 31))] [1, 0] rfl ?_
        exact HJ6 _ _ h h_p0 (okI_lit rfl)
      · have h := h.2 hb42
        refine z_iinc C 0 [(1, .int (iI (31 + (-16)))), (0, .int (iI p0))] d_jI_nlz_25 rfl (by decide) rfl ?_
        refine z_iload_n C 1 d_jI_nlz_28 rfl ?_
        refine z_bipush C d_jI_nlz_29 (by decide) ?_
        obtain ⟨hc43, h⟩ := h
        refine z_iushrK C 65536 d_jI_nlz_31 (by decide) hc43 ⟨by decide, by decide⟩ ?_
        refine z_namei (fun v0_44 e45 => ?_)
        have h := h v0_44 e45
        refine z_istore_n C [(0, .int (iI v0_44)), (1, .int (iI (31 + (-16))))] d_jI_nlz_32 (by decide) rfl ?_
        obtain ⟨ok46, h⟩ := h
        obtain ⟨ok47, h⟩ := h
        refine z_sub [(0, .int (iI v0_44)), (1, .int (iI (31 + (-16))))] [0, 1] rfl ?_
        exact HJ6 _ _ h ok46 ok47
  · have h := h.2 hb1
    refine z_iload_n C 0 d_jI_nlz_4 rfl ?_
    have hj : ∀ s49 : Int, s49 = (if p0 ≠ 0 then 0 else 32) → Z E G 2 0 0 Q σ 14 [(0, .int (iI p0))] [.int (iI s49)] := by
      intro s49 e50
      have h := h s49 e50
      have ok51 : okI s49 := by rw [e50]; split; exact (okI_lit rfl); exact (okI_lit rfl)
      subst hQ
      exact z_ireturn C d_jI_nlz_14.1 hr ⟨Nat.zero_le _, Nat.zero_le _⟩ ok51 ⟨rfl, h⟩
    clear h
    refine z_if_ne C d_jI_nlz_5 h_p0 (fun hb48 => ?_) (fun hb48 => ?_)
    · refine z_iconst C d_jI_nlz_13 ?_
      exact hj _ (if_pos hb48).symm
    · refine z_bipush C d_jI_nlz_8 (by decide) ?_
      refine z_goto C d_jI_nlz_10 ?_
      exact hj _ (if_neg (not_not_intro hb48)).symm
theorem d_jL_nlz_0 : DD b_jL_nlz 0 (.lload_n 0) 1 1 := ⟨by decide +kernel, rfl⟩
theorem d_jL_nlz_1 : DD b_jL_nlz 1 (.bipush 32) 2 3 := ⟨by decide +kernel, rfl⟩
theorem d_jL_nlz_3 : DD b_jL_nlz 3 .lushr 1 4 := ⟨by decide +kernel, rfl⟩
theorem d_jL_nlz_4 : DD b_jL_nlz 4 .l2i 1 5 := ⟨by decide +kernel, rfl⟩
theorem d_jL_nlz_5 : DD b_jL_nlz 5 (.istore_n 2) 1 6 := ⟨by decide +kernel, rfl⟩
theorem d_jL_nlz_6 : DD b_jL_nlz 6 (.iload_n 2) 1 7 := ⟨by decide +kernel, rfl⟩
theorem d_jL_nlz_7 : DB b_jL_nlz 7 (.ifCond .ne 14) 14 10 21 := ⟨by decide +kernel, rfl, rfl⟩
theorem d_jL_nlz_10 : DD b_jL_nlz 10 (.bipush 32) 2 12 := ⟨by decide +kernel, rfl⟩
theorem d_jL_nlz_12 : DD b_jL_nlz 12 (.lload_n 0) 1 13 := ⟨by decide +kernel, rfl⟩
theorem d_jL_nlz_13 : DD b_jL_nlz 13 .l2i 1 14 := ⟨by decide +kernel, rfl⟩
theorem d_jL_nlz_14 : DD b_jL_nlz 14 (.invokestatic 308) 3 17 := ⟨by decide +kernel, rfl⟩
theorem d_jL_nlz_17 : DD b_jL_nlz 17 .iadd 1 18 := ⟨by decide +kernel, rfl⟩
theorem d_jL_nlz_18 : DB b_jL_nlz 18 (.goto 7) 7 21 25 := ⟨by decide +kernel, rfl, rfl⟩
theorem d_jL_nlz_21 : DD b_jL_nlz 21 (.iload_n 2) 1 22 := ⟨by decide +kernel, rfl⟩
theorem d_jL_nlz_22 : DD b_jL_nlz 22 (.invokestatic 308) 3 25 := ⟨by decide +kernel, rfl⟩
theorem d_jL_nlz_25 : DD b_jL_nlz 25 .ireturn 1 26 := ⟨by decide +kernel, rfl⟩
set_option maxRecDepth 20000 in
set_option maxHeartbeats 4000000 in
theorem c_jL_nlz (l : Launch) (G : ZG) {p0 : Int} {σ : Mem} {K : Int → Prop} (h : wp_jL_nlz p0 σ K) (h_p0 : okL p0) : Ct l G y_jL_nlz (.code y_jL_nlz b_jL_nlz 3 (some .int)) { frames := 1, cells := 0, slots := 0, locals := 21 } 0 0 1 [.long (lL p0)] σ (fun r σ1 => σ = σ1 ∧ K r) (fun _ _ => False) := by
  unfold wp_jL_nlz at h
  refine Ct.ofZ [(0, .long (lL p0))] "java/lang/Long" (by decide) rfl (Nat.le_of_ble_eq_true rfl) rfl ?_
  intro E hR hlE C hr hX
  subst hlE
  have hroom_jI_nlz : 0 + 1 ≤ (zR E).frames ∧ 8 + (2 + 11) + 0 ≤ (zR E).locals ∧ 0 + 0 ≤ (zR E).cells ∧ 0 + 0 ≤ (zR E).slots := by rw [hR]; decide
  clear hR
  obtain ⟨Q, hQ⟩ : ∃ Q, Q = MQX G (zb E) 1 (fun r σ1 => σ = σ1 ∧ K r) (fun _ _ => False) (zs E) 0 0 0 0 := ⟨_, rfl⟩
  show Z E G 3 0 0 (MQX G (zb E) 1 (fun r σ1 => σ = σ1 ∧ K r) (fun _ _ => False) (zs E) 0 0 0 0) σ 0 [(0, .long (lL p0))] []
  rw [← hQ]
  refine z_lload_n C 0 d_jL_nlz_0 rfl ?_
  refine z_bipush C d_jL_nlz_1 (by decide) ?_
  refine z_lushrK C 4294967296 d_jL_nlz_3 (by decide) ⟨by decide, by decide⟩ ?_
  refine z_l2i C d_jL_nlz_4 ?_
  refine z_namei (fun v2_1 e2 => ?_)
  have h := h v2_1 e2
  refine z_istore_n C [(2, .int (iI v2_1)), (0, .long (lL p0))] d_jL_nlz_5 (by decide) rfl ?_
  refine z_iload_n C 0 d_jL_nlz_6 rfl ?_
  obtain ⟨ok3, h⟩ := h
  refine z_if_ne C d_jL_nlz_7 ok3 (fun hb4 => ?_) (fun hb4 => ?_)
  · have h := h.1 hb4
    refine z_iload_n C 0 d_jL_nlz_21 rfl ?_
    refine z_callS C [.int (iI v2_1)] [] 1 d_jL_nlz_22 (c_jI_nlz (zl E) G h ok3) k_158 k_389 k_157 k_8 (by decide)  (by decide +kernel) rfl rfl (Nat.le_of_ble_eq_true rfl) hroom_jI_nlz (fun r5 _s7 ok6 hq => ?_) (fun _ _ hx => hx.elim)
    obtain ⟨hs_, hk_⟩ := hq
    subst hs_
    have h := hk_
    subst hQ
    exact z_ireturn C d_jL_nlz_25.1 hr ⟨Nat.zero_le _, Nat.zero_le _⟩ ok6 ⟨rfl, h⟩
  · have h := h.2 hb4
    refine z_bipush C d_jL_nlz_10 (by decide) ?_
    refine z_lload_n C 1 d_jL_nlz_12 rfl ?_
    refine z_l2i C d_jL_nlz_13 ?_
    obtain ⟨ok8, h⟩ := h
    refine z_callS C [.int (iI p0)] [.int (iI 32)] 1 d_jL_nlz_14 (c_jI_nlz (zl E) G h ok8) k_158 k_389 k_157 k_8 (by decide)  (by decide +kernel) rfl rfl (Nat.le_of_ble_eq_true rfl) hroom_jI_nlz (fun r9 _s12 ok10 hq => ?_) (fun _ _ hx => hx.elim)
    obtain ⟨hs_, hk_⟩ := hq
    subst hs_
    have h := hk_
    refine z_iadd C d_jL_nlz_17 ?_
    refine z_goto C d_jL_nlz_18 ?_
    obtain ⟨ok11, h⟩ := h
    subst hQ
    exact z_ireturn C d_jL_nlz_25.1 hr ⟨Nat.zero_le _, Nat.zero_le _⟩ ok11 ⟨rfl, h⟩
theorem d_n_trim_0 : DD b_n_trim 0 (.aload_n 0) 1 1 := ⟨by decide +kernel, rfl⟩
theorem d_n_trim_1 : DD b_n_trim 1 (.iload_n 1) 1 2 := ⟨by decide +kernel, rfl⟩
theorem d_n_trim_2 : DD b_n_trim 2 (.putfield 13) 3 5 := ⟨by decide +kernel, rfl⟩
theorem d_n_trim_5 : DD b_n_trim 5 (.aload_n 0) 1 6 := ⟨by decide +kernel, rfl⟩
theorem d_n_trim_6 : DD b_n_trim 6 (.getfield 13) 3 9 := ⟨by decide +kernel, rfl⟩
theorem d_n_trim_9 : DB b_n_trim 9 (.ifCond .le 30) 30 12 39 := ⟨by decide +kernel, rfl, rfl⟩
theorem d_n_trim_12 : DD b_n_trim 12 (.aload_n 0) 1 13 := ⟨by decide +kernel, rfl⟩
theorem d_n_trim_13 : DD b_n_trim 13 (.getfield 9) 3 16 := ⟨by decide +kernel, rfl⟩
theorem d_n_trim_16 : DD b_n_trim 16 (.aload_n 0) 1 17 := ⟨by decide +kernel, rfl⟩
theorem d_n_trim_17 : DD b_n_trim 17 (.getfield 13) 3 20 := ⟨by decide +kernel, rfl⟩
theorem d_n_trim_20 : DD b_n_trim 20 (.iconst 1) 1 21 := ⟨by decide +kernel, rfl⟩
theorem d_n_trim_21 : DD b_n_trim 21 .isub 1 22 := ⟨by decide +kernel, rfl⟩
theorem d_n_trim_22 : DD b_n_trim 22 .iaload 1 23 := ⟨by decide +kernel, rfl⟩
theorem d_n_trim_23 : DB b_n_trim 23 (.ifCond .ne 16) 16 26 39 := ⟨by decide +kernel, rfl, rfl⟩
theorem d_n_trim_26 : DD b_n_trim 26 (.aload_n 0) 1 27 := ⟨by decide +kernel, rfl⟩
theorem d_n_trim_27 : DD b_n_trim 27 .dup 1 28 := ⟨by decide +kernel, rfl⟩
theorem d_n_trim_28 : DD b_n_trim 28 (.getfield 13) 3 31 := ⟨by decide +kernel, rfl⟩
theorem d_n_trim_31 : DD b_n_trim 31 (.iconst 1) 1 32 := ⟨by decide +kernel, rfl⟩
theorem d_n_trim_32 : DD b_n_trim 32 .isub 1 33 := ⟨by decide +kernel, rfl⟩
theorem d_n_trim_33 : DD b_n_trim 33 (.putfield 13) 3 36 := ⟨by decide +kernel, rfl⟩
theorem d_n_trim_36 : DB b_n_trim 36 (.goto (-31)) (-31) 39 5 := ⟨by decide +kernel, rfl, rfl⟩
theorem d_n_trim_39 : DD b_n_trim 39 (.aload_n 0) 1 40 := ⟨by decide +kernel, rfl⟩
theorem d_n_trim_40 : DD b_n_trim 40 (.aload_n 0) 1 41 := ⟨by decide +kernel, rfl⟩
theorem d_n_trim_41 : DD b_n_trim 41 (.getfield 13) 3 44 := ⟨by decide +kernel, rfl⟩
theorem d_n_trim_44 : DB b_n_trim 44 (.ifCond .ne 7) 7 47 51 := ⟨by decide +kernel, rfl, rfl⟩
theorem d_n_trim_47 : DD b_n_trim 47 (.iconst 0) 1 48 := ⟨by decide +kernel, rfl⟩
theorem d_n_trim_48 : DB b_n_trim 48 (.goto 4) 4 51 52 := ⟨by decide +kernel, rfl, rfl⟩
theorem d_n_trim_51 : DD b_n_trim 51 (.iload_n 2) 1 52 := ⟨by decide +kernel, rfl⟩
theorem d_n_trim_52 : DD b_n_trim 52 (.putfield 17) 3 55 := ⟨by decide +kernel, rfl⟩
theorem d_n_trim_55 : DD b_n_trim 55 .return_ 1 56 := ⟨by decide +kernel, rfl⟩
set_option maxRecDepth 20000 in
set_option maxHeartbeats 4000000 in
theorem c_n_trim (l : Launch) (G : ZG) {t length s : Int} {σ : Mem} {K : Mem → Prop} (h : wp_n_trim t length s σ K) (h_t : isN t) (h_length : okI length) (h_s : okI s) : Ct l G y_n_trim (.code y_n_trim b_n_trim 3 none) { frames := 0, cells := 0, slots := 0, locals := 0 } 0 0 0 [.ref (zA G t), .int (iI length), .int (iI s)] σ (fun _ σ1 => K σ1) (fun _ _ => False) := by
  unfold wp_n_trim at h
  refine Ct.ofZ [(0, .ref (zA G t)), (1, .int (iI length)), (2, .int (iI s))] "LimbDesk$Num" (by decide) rfl (Nat.le_of_ble_eq_true rfl) rfl ?_
  intro E hR hlE C hr hX
  subst hlE
  clear hR
  obtain ⟨Q, hQ⟩ : ∃ Q, Q = MQX G (zb E) 0 (fun _ σ1 => K σ1) (fun _ _ => False) (zs E) 0 0 0 0 := ⟨_, rfl⟩
  show Z E G 3 0 0 (MQX G (zb E) 0 (fun _ σ1 => K σ1) (fun _ _ => False) (zs E) 0 0 0 0) σ 0 [(0, .ref (zA G t)), (1, .int (iI length)), (2, .int (iI s))] []
  rw [← hQ]
  refine z_aload_n C 0 d_n_trim_0 rfl ?_
  refine z_iload_n C 1 d_n_trim_1 rfl ?_
  refine z_nput_n C d_n_trim_2 k_32 h_t ?_
  refine z_sub [(0, .ref (zA G t)), (2, .int (iI s))] [0, 2] rfl ?_
  refine (Lo0.walk (P := fun σ1 => Z E G 3 0 0 Q σ1 5 [(0, .ref (zA G t)), (2, .int (iI s))] []) ?_ h)
  intro σ1 again2 Hagain2 h
  refine z_aload_n C 0 d_n_trim_5 rfl ?_
  refine z_nget_n C d_n_trim_6 k_32 h_t ?_
  obtain ⟨ok3, h⟩ := h
  refine Jq0.walk (Z E G 3 0 0 Q σ1 39 [(0, .ref (zA G t)), (2, .int (iI s))] []) h ?_ ?_
  · intro h
    refine z_aload_n C 0 d_n_trim_39 rfl ?_
    refine z_aload_n C 0 d_n_trim_40 rfl ?_
    refine z_nget_n C d_n_trim_41 k_32 h_t ?_
    have hj : ∀ s6 : Int, s6 = (if (σ1 t 1) ≠ 0 then s else 0) → Z E G 3 0 0 Q σ1 52 [(0, .ref (zA G t)), (2, .int (iI s))] [.int (iI s6), .ref (zA G t)] := by
      intro s6 e7
      have h := h s6 e7
      have ok8 : okI s6 := by rw [e7]; split; exact h_s; exact (okI_lit rfl)
      refine z_nput_sign C d_n_trim_52 k_33 h_t ?_
      subst hQ
      exact z_return C d_n_trim_55.1 hr ⟨Nat.zero_le _, Nat.zero_le _⟩ h
    clear h
    refine z_if_ne C d_n_trim_44 ok3 (fun hb5 => ?_) (fun hb5 => ?_)
    · refine z_iload_n C 1 d_n_trim_51 rfl ?_
      exact hj _ (if_pos hb5).symm
    · refine z_iconst C d_n_trim_47 ?_
      refine z_goto C d_n_trim_48 ?_
      exact hj _ (if_neg (not_not_intro hb5)).symm
  · intro J4 HJ4 h
    refine z_if_le C d_n_trim_9 ok3 (fun hb9 => ?_) (fun hb9 => ?_)
    · have h := h.1 hb9
      refine z_sub [(0, .ref (zA G t)), (2, .int (iI s))] [0, 1] rfl ?_
      exact HJ4 h
    · have h := h.2 hb9
      refine z_aload_n C 0 d_n_trim_12 rfl ?_
      refine z_nget_d C d_n_trim_13 k_30 h_t ?_
      refine z_aload_n C 0 d_n_trim_16 rfl ?_
      refine z_nget_n C d_n_trim_17 k_32 h_t ?_
      refine z_iconst C d_n_trim_20 ?_
      refine z_isub C d_n_trim_21 ?_
      obtain ⟨hc10, h⟩ := h
      refine z_ialdN C (600) d_n_trim_22 (isN.A h_t) (ln_num h_t) hc10 ?_
      obtain ⟨ok11, h⟩ := h
      refine z_if_ne C d_n_trim_23 ok11 (fun hb12 => ?_) (fun hb12 => ?_)
      · have h := h.1 hb12
        refine z_sub [(0, .ref (zA G t)), (2, .int (iI s))] [0, 1] rfl ?_
        exact HJ4 h
      · have h := h.2 hb12
        refine z_aload_n C 0 d_n_trim_26 rfl ?_
        refine z_dup C d_n_trim_27 rfl ?_
        refine z_nget_n C d_n_trim_28 k_32 h_t ?_
        refine z_iconst C d_n_trim_31 ?_
        refine z_isub C d_n_trim_32 ?_
        refine z_nput_n C d_n_trim_33 k_32 h_t ?_
        refine z_goto C d_n_trim_36 ?_
        refine z_sub [(0, .ref (zA G t)), (2, .int (iI s))] [0, 1] rfl ?_
        exact Hagain2 _ h
theorem d_n_bits_0 : DD b_n_bits 0 (.aload_n 0) 1 1 := ⟨by decide +kernel, rfl⟩
theorem d_n_bits_1 : DD b_n_bits 1 (.getfield 13) 3 4 := ⟨by decide +kernel, rfl⟩
theorem d_n_bits_4 : DB b_n_bits 4 (.ifCond .ne 7) 7 7 11 := ⟨by decide +kernel, rfl, rfl⟩
theorem d_n_bits_7 : DD b_n_bits 7 (.iconst 0) 1 8 := ⟨by decide +kernel, rfl⟩
theorem d_n_bits_8 : DB b_n_bits 8 (.goto 30) 30 11 38 := ⟨by decide +kernel, rfl, rfl⟩
theorem d_n_bits_11 : DD b_n_bits 11 (.bipush 24) 2 13 := ⟨by decide +kernel, rfl⟩
theorem d_n_bits_13 : DD b_n_bits 13 (.aload_n 0) 1 14 := ⟨by decide +kernel, rfl⟩
theorem d_n_bits_14 : DD b_n_bits 14 (.getfield 13) 3 17 := ⟨by decide +kernel, rfl⟩
theorem d_n_bits_17 : DD b_n_bits 17 (.iconst 1) 1 18 := ⟨by decide +kernel, rfl⟩
theorem d_n_bits_18 : DD b_n_bits 18 .isub 1 19 := ⟨by decide +kernel, rfl⟩
theorem d_n_bits_19 : DD b_n_bits 19 .imul 1 20 := ⟨by decide +kernel, rfl⟩
theorem d_n_bits_20 : DD b_n_bits 20 (.bipush 32) 2 22 := ⟨by decide +kernel, rfl⟩
theorem d_n_bits_22 : DD b_n_bits 22 .iadd 1 23 := ⟨by decide +kernel, rfl⟩
theorem d_n_bits_23 : DD b_n_bits 23 (.aload_n 0) 1 24 := ⟨by decide +kernel, rfl⟩
theorem d_n_bits_24 : DD b_n_bits 24 (.getfield 9) 3 27 := ⟨by decide +kernel, rfl⟩
theorem d_n_bits_27 : DD b_n_bits 27 (.aload_n 0) 1 28 := ⟨by decide +kernel, rfl⟩
theorem d_n_bits_28 : DD b_n_bits 28 (.getfield 13) 3 31 := ⟨by decide +kernel, rfl⟩
theorem d_n_bits_31 : DD b_n_bits 31 (.iconst 1) 1 32 := ⟨by decide +kernel, rfl⟩
theorem d_n_bits_32 : DD b_n_bits 32 .isub 1 33 := ⟨by decide +kernel, rfl⟩
theorem d_n_bits_33 : DD b_n_bits 33 .iaload 1 34 := ⟨by decide +kernel, rfl⟩
theorem d_n_bits_34 : DD b_n_bits 34 (.invokestatic 37) 3 37 := ⟨by decide +kernel, rfl⟩
theorem d_n_bits_37 : DD b_n_bits 37 .isub 1 38 := ⟨by decide +kernel, rfl⟩
theorem d_n_bits_38 : DD b_n_bits 38 .ireturn 1 39 := ⟨by decide +kernel, rfl⟩
set_option maxRecDepth 20000 in
set_option maxHeartbeats 4000000 in
theorem c_n_bits (l : Launch) (G : ZG) {t : Int} {σ : Mem} {K : Int → Prop} (h : wp_n_bits t σ K) (h_t : isN t) : Ct l G y_n_bits (.code y_n_bits b_n_bits 1 (some .int)) { frames := 1, cells := 0, slots := 0, locals := 21 } 0 0 1 [.ref (zA G t)] σ (fun r σ1 => σ = σ1 ∧ K r) (fun _ _ => False) := by
  unfold wp_n_bits at h
  refine Ct.ofZ [(0, .ref (zA G t))] "LimbDesk$Num" (by decide) rfl (Nat.le_of_ble_eq_true rfl) rfl ?_
  intro E hR hlE C hr hX
  subst hlE
  have hroom_jI_nlz : 0 + 1 ≤ (zR E).frames ∧ 8 + (2 + 11) + 0 ≤ (zR E).locals ∧ 0 + 0 ≤ (zR E).cells ∧ 0 + 0 ≤ (zR E).slots := by rw [hR]; decide
  clear hR
  obtain ⟨Q, hQ⟩ : ∃ Q, Q = MQX G (zb E) 1 (fun r σ1 => σ = σ1 ∧ K r) (fun _ _ => False) (zs E) 0 0 0 0 := ⟨_, rfl⟩
  show Z E G 1 0 0 (MQX G (zb E) 1 (fun r σ1 => σ = σ1 ∧ K r) (fun _ _ => False) (zs E) 0 0 0 0) σ 0 [(0, .ref (zA G t))] []
  rw [← hQ]
  refine z_aload_n C 0 d_n_bits_0 rfl ?_
  refine z_nget_n C d_n_bits_1 k_32 h_t ?_
  obtain ⟨ok1, h⟩ := h
  refine z_if_ne C d_n_bits_4 ok1 (fun hb2 => ?_) (fun hb2 => ?_)
  · have h := h.1 hb2
    refine z_bipush C d_n_bits_11 (by decide) ?_
    refine z_aload_n C 0 d_n_bits_13 rfl ?_
    refine z_nget_n C d_n_bits_14 k_32 h_t ?_
    refine z_iconst C d_n_bits_17 ?_
    refine z_isub C d_n_bits_18 ?_
    refine z_imul C d_n_bits_19 ?_
    refine z_bipush C d_n_bits_20 (by decide) ?_
    refine z_iadd C d_n_bits_22 ?_
    refine z_aload_n C 0 d_n_bits_23 rfl ?_
    refine z_nget_d C d_n_bits_24 k_30 h_t ?_
    refine z_aload_n C 0 d_n_bits_27 rfl ?_
    refine z_nget_n C d_n_bits_28 k_32 h_t ?_
    refine z_iconst C d_n_bits_31 ?_
    refine z_isub C d_n_bits_32 ?_
    obtain ⟨hc3, h⟩ := h
    refine z_ialdN C (600) d_n_bits_33 (isN.A h_t) (ln_num h_t) hc3 ?_
    obtain ⟨ok4, h⟩ := h
    refine z_callS C [.int (iI (σ (21 + t) ((σ t 1) - 1)))] [.int (iI ((24 * ((σ t 1) - 1)) + 32))] 1 d_n_bits_34 (c_jI_nlz (zl E) G h ok4) k_158 k_156 k_157 k_8 (by decide)  (by decide +kernel) rfl rfl (Nat.le_of_ble_eq_true rfl) hroom_jI_nlz (fun r5 _s8 ok6 hq => ?_) (fun _ _ hx => hx.elim)
    obtain ⟨hs_, hk_⟩ := hq
    subst hs_
    have h := hk_
    refine z_isub C d_n_bits_37 ?_
    obtain ⟨ok7, h⟩ := h
    subst hQ
    exact z_ireturn C d_n_bits_38.1 hr ⟨Nat.zero_le _, Nat.zero_le _⟩ ok7 ⟨rfl, h⟩
  · have h := h.2 hb2
    refine z_iconst C d_n_bits_7 ?_
    refine z_goto C d_n_bits_8 ?_
    subst hQ
    exact z_ireturn C d_n_bits_38.1 hr ⟨Nat.zero_le _, Nat.zero_le _⟩ (okI_lit rfl) ⟨rfl, h⟩
theorem d_n_set_0 : DD b_n_set 0 (.lload_n 1) 1 1 := ⟨by decide +kernel, rfl⟩
theorem d_n_set_1 : DD b_n_set 1 (.lconst 0) 1 2 := ⟨by decide +kernel, rfl⟩
theorem d_n_set_2 : DD b_n_set 2 .lcmp 1 3 := ⟨by decide +kernel, rfl⟩
theorem d_n_set_3 : DB b_n_set 3 (.ifCond .ge 8) 8 6 11 := ⟨by decide +kernel, rfl, rfl⟩
theorem d_n_set_6 : DD b_n_set 6 (.lload_n 1) 1 7 := ⟨by decide +kernel, rfl⟩
theorem d_n_set_7 : DD b_n_set 7 .lneg 1 8 := ⟨by decide +kernel, rfl⟩
theorem d_n_set_8 : DB b_n_set 8 (.goto 4) 4 11 12 := ⟨by decide +kernel, rfl, rfl⟩
theorem d_n_set_11 : DD b_n_set 11 (.lload_n 1) 1 12 := ⟨by decide +kernel, rfl⟩
theorem d_n_set_12 : DD b_n_set 12 (.lstore_n 3) 1 13 := ⟨by decide +kernel, rfl⟩
theorem d_n_set_13 : DD b_n_set 13 (.iconst 0) 1 14 := ⟨by decide +kernel, rfl⟩
theorem d_n_set_14 : DD b_n_set 14 (.istore 5) 2 16 := ⟨by decide +kernel, rfl⟩
theorem d_n_set_16 : DD b_n_set 16 (.iload 5) 2 18 := ⟨by decide +kernel, rfl⟩
theorem d_n_set_18 : DD b_n_set 18 (.iconst 3) 1 19 := ⟨by decide +kernel, rfl⟩
theorem d_n_set_19 : DB b_n_set 19 (.if_icmp .ge 27) 27 22 46 := ⟨by decide +kernel, rfl, rfl⟩
theorem d_n_set_22 : DD b_n_set 22 (.aload_n 0) 1 23 := ⟨by decide +kernel, rfl⟩
theorem d_n_set_23 : DD b_n_set 23 (.getfield 9) 3 26 := ⟨by decide +kernel, rfl⟩
theorem d_n_set_26 : DD b_n_set 26 (.iload 5) 2 28 := ⟨by decide +kernel, rfl⟩
theorem d_n_set_28 : DD b_n_set 28 (.lload_n 3) 1 29 := ⟨by decide +kernel, rfl⟩
theorem d_n_set_29 : DD b_n_set 29 (.ldc2_w 20) 3 32 := ⟨by decide +kernel, rfl⟩
theorem d_n_set_32 : DD b_n_set 32 .land 1 33 := ⟨by decide +kernel, rfl⟩
theorem d_n_set_33 : DD b_n_set 33 .l2i 1 34 := ⟨by decide +kernel, rfl⟩
theorem d_n_set_34 : DD b_n_set 34 .iastore 1 35 := ⟨by decide +kernel, rfl⟩
theorem d_n_set_35 : DD b_n_set 35 (.lload_n 3) 1 36 := ⟨by decide +kernel, rfl⟩
theorem d_n_set_36 : DD b_n_set 36 (.bipush 24) 2 38 := ⟨by decide +kernel, rfl⟩
theorem d_n_set_38 : DD b_n_set 38 .lushr 1 39 := ⟨by decide +kernel, rfl⟩
theorem d_n_set_39 : DD b_n_set 39 (.lstore_n 3) 1 40 := ⟨by decide +kernel, rfl⟩
theorem d_n_set_40 : DD b_n_set 40 (.iinc 5 1) 3 43 := ⟨by decide +kernel, rfl⟩
theorem d_n_set_43 : DB b_n_set 43 (.goto (-27)) (-27) 46 16 := ⟨by decide +kernel, rfl, rfl⟩
theorem d_n_set_46 : DD b_n_set 46 (.aload_n 0) 1 47 := ⟨by decide +kernel, rfl⟩
theorem d_n_set_47 : DD b_n_set 47 (.iconst 3) 1 48 := ⟨by decide +kernel, rfl⟩
theorem d_n_set_48 : DD b_n_set 48 (.lload_n 1) 1 49 := ⟨by decide +kernel, rfl⟩
theorem d_n_set_49 : DD b_n_set 49 (.lconst 0) 1 50 := ⟨by decide +kernel, rfl⟩
theorem d_n_set_50 : DD b_n_set 50 .lcmp 1 51 := ⟨by decide +kernel, rfl⟩
theorem d_n_set_51 : DB b_n_set 51 (.ifCond .ge 7) 7 54 58 := ⟨by decide +kernel, rfl, rfl⟩
theorem d_n_set_54 : DD b_n_set 54 (.iconst (-1)) 1 55 := ⟨by decide +kernel, rfl⟩
theorem d_n_set_55 : DB b_n_set 55 (.goto 4) 4 58 59 := ⟨by decide +kernel, rfl, rfl⟩
theorem d_n_set_58 : DD b_n_set 58 (.iconst 1) 1 59 := ⟨by decide +kernel, rfl⟩
theorem d_n_set_59 : DD b_n_set 59 (.invokevirtual 22) 3 62 := ⟨by decide +kernel, rfl⟩
theorem d_n_set_62 : DD b_n_set 62 .return_ 1 63 := ⟨by decide +kernel, rfl⟩
set_option maxRecDepth 20000 in
set_option maxHeartbeats 4000000 in
theorem c_n_set (l : Launch) (G : ZG) {t v : Int} {σ : Mem} {K : Mem → Prop} (h : wp_n_set t v σ K) (h_t : isN t) (h_v : okL v) : Ct l G y_n_set (.code y_n_set b_n_set 6 none) { frames := 1, cells := 0, slots := 0, locals := 22 } 0 0 0 [.ref (zA G t), .long (lL v)] σ (fun _ σ1 => K σ1) (fun _ _ => False) := by
  unfold wp_n_set at h
  refine Ct.ofZ [(0, .ref (zA G t)), (1, .long (lL v))] "LimbDesk$Num" (by decide) rfl (Nat.le_of_ble_eq_true rfl) rfl ?_
  intro E hR hlE C hr hX
  subst hlE
  have hroom_n_trim : 0 + 1 ≤ (zR E).frames ∧ 8 + (3 + 11) + 0 ≤ (zR E).locals ∧ 0 + 0 ≤ (zR E).cells ∧ 0 + 0 ≤ (zR E).slots := by rw [hR]; decide
  clear hR
  obtain ⟨Q, hQ⟩ : ∃ Q, Q = MQX G (zb E) 0 (fun _ σ1 => K σ1) (fun _ _ => False) (zs E) 0 0 0 0 := ⟨_, rfl⟩
  show Z E G 6 0 0 (MQX G (zb E) 0 (fun _ σ1 => K σ1) (fun _ _ => False) (zs E) 0 0 0 0) σ 0 [(0, .ref (zA G t)), (1, .long (lL v))] []
  rw [← hQ]
  refine z_lload_n C 1 d_n_set_0 rfl ?_
  refine z_lconst C d_n_set_1 ?_
  have hj : ∀ s2 : Int, s2 = (if 0 ≤ v then v else (-v)) → Z E G 6 0 0 Q σ 12 [(0, .ref (zA G t)), (1, .long (lL v))] [.long (lL s2)] := by
    intro s2 e3
    have h := h s2 e3
    refine z_lstore_n C [(3, .long (lL s2)), (0, .ref (zA G t)), (1, .long (lL v))] d_n_set_12 (by decide) rfl ?_
    refine z_iconst C d_n_set_13 ?_
    refine z_istore C [(5, .int (iI 0)), (3, .long (lL s2)), (0, .ref (zA G t)), (1, .long (lL v))] d_n_set_14 (by decide) rfl ?_
    refine z_sub [(0, .ref (zA G t)), (1, .long (lL v)), (3, .long (lL s2)), (5, .int (iI 0))] [2, 3, 1, 0] rfl ?_
    refine (Lo2.walk (P := fun v3_4 v5_5 σ6 => okI v5_5 → Z E G 6 0 0 Q σ6 16 [(0, .ref (zA G t)), (1, .long (lL v)), (3, .long (lL v3_4)), (5, .int (iI v5_5))] []) ?_ h) (okI_lit rfl)
    intro v3_4 v5_5 σ6 again8 Hagain8 h ok7
    refine z_iload C 3 d_n_set_16 rfl ?_
    refine z_iconst C d_n_set_18 ?_
    refine z_icmp_ge C d_n_set_19 ok7 (okI_lit rfl) (fun hb9 => ?_) (fun hb9 => ?_)
    · have h := h.1 hb9
      refine z_aload_n C 0 d_n_set_46 rfl ?_
      refine z_iconst C d_n_set_47 ?_
      refine z_lload_n C 1 d_n_set_48 rfl ?_
      refine z_lconst C d_n_set_49 ?_
      have hj : ∀ s11 : Int, s11 = (if 0 ≤ v then 1 else (-1)) → Z E G 6 0 0 Q σ6 59 [(0, .ref (zA G t)), (1, .long (lL v)), (3, .long (lL v3_4)), (5, .int (iI v5_5))] [.int (iI s11), .int (iI 3), .ref (zA G t)] := by
        intro s11 e12
        have h := h s11 e12
        have ok13 : okI s11 := by rw [e12]; split; exact (okI_lit rfl); exact (okI_lit rfl)
        refine z_callV C "LimbDesk$Num" [.int (iI 3), .int (iI s11)] [] 2 d_n_set_59 (c_n_trim (zl E) G h h_t (okI_lit rfl) ok13) k_168 k_165 k_167 k_s2 k_2 (by decide) (recv_N C h_t) (by decide +kernel) rfl rfl (Nat.le_of_ble_eq_true rfl) hroom_n_trim (fun _r σ14 ok15 hq => ?_) (fun _ _ hx => hx.elim)
        have h := hq
        subst hQ
        exact z_return C d_n_set_62.1 hr ⟨Nat.zero_le _, Nat.zero_le _⟩ h
      clear h
      refine z_lcmp_ge C d_n_set_50 d_n_set_51 h_v (okL_lit rfl) (fun hb10 => ?_) (fun hb10 => ?_)
      · refine z_iconst C d_n_set_58 ?_
        exact hj _ (if_pos hb10).symm
      · refine z_iconst C d_n_set_54 ?_
        refine z_goto C d_n_set_55 ?_
        exact hj _ (if_neg (Int.not_le.mpr hb10)).symm
    · have h := h.2 hb9
      refine z_aload_n C 0 d_n_set_22 rfl ?_
      refine z_nget_d C d_n_set_23 k_30 h_t ?_
      refine z_iload C 3 d_n_set_26 rfl ?_
      refine z_lload_n C 2 d_n_set_28 rfl ?_
      refine z_ldc2 C d_n_set_29 k_164 (n := 16777215) (by decide) ?_
      refine z_lmask C 24 16777216 d_n_set_32 (by decide) (by decide) (by decide) ?_
      refine z_l2i C d_n_set_33 ?_
      obtain ⟨hc16, h⟩ := h
      refine z_iastN C (600) d_n_set_34 (isN.A h_t) (ln_num h_t) hc16 ?_
      refine z_lload_n C 2 d_n_set_35 rfl ?_
      refine z_bipush C d_n_set_36 (by decide) ?_
      refine z_lushrK C 16777216 d_n_set_38 (by decide) ⟨by decide, by decide⟩ ?_
      refine z_namel (fun v3_17 e18 => ?_)
      have h := h v3_17 e18
      refine z_lstore_n C [(3, .long (lL v3_17)), (0, .ref (zA G t)), (1, .long (lL v)), (5, .int (iI v5_5))] d_n_set_39 (by decide) rfl ?_
      refine z_iinc C 3 [(5, .int (iI (v5_5 + 1))), (3, .long (lL v3_17)), (0, .ref (zA G t)), (1, .long (lL v))] d_n_set_40 rfl (by decide) rfl ?_
      refine z_goto C d_n_set_43 ?_
      obtain ⟨ok19, h⟩ := h
      refine z_sub [(0, .ref (zA G t)), (1, .long (lL v)), (3, .long (lL v3_17)), (5, .int (iI (v5_5 + 1)))] [2, 3, 1, 0] rfl ?_
      exact Hagain8 _ _ _ h ok19
  clear h
  refine z_lcmp_ge C d_n_set_2 d_n_set_3 h_v (okL_lit rfl) (fun hb1 => ?_) (fun hb1 => ?_)
  · refine z_lload_n C 1 d_n_set_11 rfl ?_
    exact hj _ (if_pos hb1).symm
  · refine z_lload_n C 1 d_n_set_6 rfl ?_
    refine z_lneg C d_n_set_7 ?_
    refine z_goto C d_n_set_8 ?_
    exact hj _ (if_neg (Int.not_le.mpr hb1)).symm
theorem d_n_take_0 : DD b_n_take 0 (.iconst 0) 1 1 := ⟨by decide +kernel, rfl⟩
theorem d_n_take_1 : DD b_n_take 1 (.istore_n 2) 1 2 := ⟨by decide +kernel, rfl⟩
theorem d_n_take_2 : DD b_n_take 2 (.iload_n 2) 1 3 := ⟨by decide +kernel, rfl⟩
theorem d_n_take_3 : DD b_n_take 3 (.aload_n 1) 1 4 := ⟨by decide +kernel, rfl⟩
theorem d_n_take_4 : DD b_n_take 4 (.getfield 13) 3 7 := ⟨by decide +kernel, rfl⟩
theorem d_n_take_7 : DB b_n_take 7 (.if_icmp .ge 21) 21 10 28 := ⟨by decide +kernel, rfl, rfl⟩
theorem d_n_take_10 : DD b_n_take 10 (.aload_n 0) 1 11 := ⟨by decide +kernel, rfl⟩
theorem d_n_take_11 : DD b_n_take 11 (.getfield 9) 3 14 := ⟨by decide +kernel, rfl⟩
theorem d_n_take_14 : DD b_n_take 14 (.iload_n 2) 1 15 := ⟨by decide +kernel, rfl⟩
theorem d_n_take_15 : DD b_n_take 15 (.aload_n 1) 1 16 := ⟨by decide +kernel, rfl⟩
theorem d_n_take_16 : DD b_n_take 16 (.getfield 9) 3 19 := ⟨by decide +kernel, rfl⟩
theorem d_n_take_19 : DD b_n_take 19 (.iload_n 2) 1 20 := ⟨by decide +kernel, rfl⟩
theorem d_n_take_20 : DD b_n_take 20 .iaload 1 21 := ⟨by decide +kernel, rfl⟩
theorem d_n_take_21 : DD b_n_take 21 .iastore 1 22 := ⟨by decide +kernel, rfl⟩
theorem d_n_take_22 : DD b_n_take 22 (.iinc 2 1) 3 25 := ⟨by decide +kernel, rfl⟩
theorem d_n_take_25 : DB b_n_take 25 (.goto (-23)) (-23) 28 2 := ⟨by decide +kernel, rfl, rfl⟩
theorem d_n_take_28 : DD b_n_take 28 (.aload_n 0) 1 29 := ⟨by decide +kernel, rfl⟩
theorem d_n_take_29 : DD b_n_take 29 (.aload_n 1) 1 30 := ⟨by decide +kernel, rfl⟩
theorem d_n_take_30 : DD b_n_take 30 (.getfield 13) 3 33 := ⟨by decide +kernel, rfl⟩
theorem d_n_take_33 : DD b_n_take 33 (.putfield 13) 3 36 := ⟨by decide +kernel, rfl⟩
theorem d_n_take_36 : DD b_n_take 36 (.aload_n 0) 1 37 := ⟨by decide +kernel, rfl⟩
theorem d_n_take_37 : DD b_n_take 37 (.aload_n 1) 1 38 := ⟨by decide +kernel, rfl⟩
theorem d_n_take_38 : DD b_n_take 38 (.getfield 17) 3 41 := ⟨by decide +kernel, rfl⟩
theorem d_n_take_41 : DD b_n_take 41 (.putfield 17) 3 44 := ⟨by decide +kernel, rfl⟩
theorem d_n_take_44 : DD b_n_take 44 .return_ 1 45 := ⟨by decide +kernel, rfl⟩
set_option maxRecDepth 20000 in
set_option maxHeartbeats 4000000 in
theorem c_n_take (l : Launch) (G : ZG) {t o : Int} {σ : Mem} {K : Mem → Prop} (h : wp_n_take t o σ K) (h_t : isN t) (h_o : isN o) : Ct l G y_n_take (.code y_n_take b_n_take 3 none) { frames := 0, cells := 0, slots := 0, locals := 0 } 0 0 0 [.ref (zA G t), .ref (zA G o)] σ (fun _ σ1 => K σ1) (fun _ _ => False) := by
  unfold wp_n_take at h
  refine Ct.ofZ [(0, .ref (zA G t)), (1, .ref (zA G o))] "LimbDesk$Num" (by decide) rfl (Nat.le_of_ble_eq_true rfl) rfl ?_
  intro E hR hlE C hr hX
  subst hlE
  clear hR
  obtain ⟨Q, hQ⟩ : ∃ Q, Q = MQX G (zb E) 0 (fun _ σ1 => K σ1) (fun _ _ => False) (zs E) 0 0 0 0 := ⟨_, rfl⟩
  show Z E G 3 0 0 (MQX G (zb E) 0 (fun _ σ1 => K σ1) (fun _ _ => False) (zs E) 0 0 0 0) σ 0 [(0, .ref (zA G t)), (1, .ref (zA G o))] []
  rw [← hQ]
  refine z_iconst C d_n_take_0 ?_
  refine z_istore_n C [(2, .int (iI 0)), (0, .ref (zA G t)), (1, .ref (zA G o))] d_n_take_1 (by decide) rfl ?_
  refine z_sub [(0, .ref (zA G t)), (1, .ref (zA G o)), (2, .int (iI 0))] [1, 2, 0] rfl ?_
  refine (Lo1.walk (P := fun v2_1 σ2 => okI v2_1 → Z E G 3 0 0 Q σ2 2 [(0, .ref (zA G t)), (1, .ref (zA G o)), (2, .int (iI v2_1))] []) ?_ h) (okI_lit rfl)
  intro v2_1 σ2 again4 Hagain4 h ok3
  refine z_iload_n C 2 d_n_take_2 rfl ?_
  refine z_aload_n C 1 d_n_take_3 rfl ?_
  refine z_nget_n C d_n_take_4 k_32 h_o ?_
  obtain ⟨ok5, h⟩ := h
  refine z_icmp_ge C d_n_take_7 ok3 ok5 (fun hb6 => ?_) (fun hb6 => ?_)
  · have h := h.1 hb6
    refine z_aload_n C 0 d_n_take_28 rfl ?_
    refine z_aload_n C 1 d_n_take_29 rfl ?_
    refine z_nget_n C d_n_take_30 k_32 h_o ?_
    refine z_nput_n C d_n_take_33 k_32 h_t ?_
    refine z_aload_n C 0 d_n_take_36 rfl ?_
    refine z_aload_n C 1 d_n_take_37 rfl ?_
    refine z_nget_sign C d_n_take_38 k_33 h_o ?_
    refine z_nput_sign C d_n_take_41 k_33 h_t ?_
    subst hQ
    exact z_return C d_n_take_44.1 hr ⟨Nat.zero_le _, Nat.zero_le _⟩ h
  · have h := h.2 hb6
    refine z_aload_n C 0 d_n_take_10 rfl ?_
    refine z_nget_d C d_n_take_11 k_30 h_t ?_
    refine z_iload_n C 2 d_n_take_14 rfl ?_
    refine z_aload_n C 1 d_n_take_15 rfl ?_
    refine z_nget_d C d_n_take_16 k_30 h_o ?_
    refine z_iload_n C 2 d_n_take_19 rfl ?_
    obtain ⟨hc7, h⟩ := h
    refine z_ialdN C (600) d_n_take_20 (isN.A h_o) (ln_num h_o) hc7 ?_
    refine z_iastN C (600) d_n_take_21 (isN.A h_t) (ln_num h_t) hc7 ?_
    refine z_iinc C 2 [(2, .int (iI (v2_1 + 1))), (0, .ref (zA G t)), (1, .ref (zA G o))] d_n_take_22 rfl (by decide) rfl ?_
    refine z_goto C d_n_take_25 ?_
    obtain ⟨ok8, h⟩ := h
    refine z_sub [(0, .ref (zA G t)), (1, .ref (zA G o)), (2, .int (iI (v2_1 + 1)))] [1, 2, 0] rfl ?_
    exact Hagain4 _ _ h ok8
theorem d_n_fits_0 : DD b_n_fits 0 (.aload_n 0) 1 1 := ⟨by decide +kernel, rfl⟩
theorem d_n_fits_1 : DD b_n_fits 1 (.invokevirtual 26) 3 4 := ⟨by decide +kernel, rfl⟩
theorem d_n_fits_4 : DD b_n_fits 4 (.bipush 64) 2 6 := ⟨by decide +kernel, rfl⟩
theorem d_n_fits_6 : DB b_n_fits 6 (.if_icmp .lt 48) 48 9 54 := ⟨by decide +kernel, rfl, rfl⟩
theorem d_n_fits_9 : DD b_n_fits 9 (.aload_n 0) 1 10 := ⟨by decide +kernel, rfl⟩
theorem d_n_fits_10 : DD b_n_fits 10 (.getfield 17) 3 13 := ⟨by decide +kernel, rfl⟩
theorem d_n_fits_13 : DB b_n_fits 13 (.ifCond .ge 45) 45 16 58 := ⟨by decide +kernel, rfl, rfl⟩
theorem d_n_fits_16 : DD b_n_fits 16 (.aload_n 0) 1 17 := ⟨by decide +kernel, rfl⟩
theorem d_n_fits_17 : DD b_n_fits 17 (.invokevirtual 26) 3 20 := ⟨by decide +kernel, rfl⟩
theorem d_n_fits_20 : DD b_n_fits 20 (.bipush 64) 2 22 := ⟨by decide +kernel, rfl⟩
theorem d_n_fits_22 : DB b_n_fits 22 (.if_icmp .ne 36) 36 25 58 := ⟨by decide +kernel, rfl, rfl⟩
theorem d_n_fits_25 : DD b_n_fits 25 (.aload_n 0) 1 26 := ⟨by decide +kernel, rfl⟩
theorem d_n_fits_26 : DD b_n_fits 26 (.getfield 9) 3 29 := ⟨by decide +kernel, rfl⟩
theorem d_n_fits_29 : DD b_n_fits 29 (.iconst 0) 1 30 := ⟨by decide +kernel, rfl⟩
theorem d_n_fits_30 : DD b_n_fits 30 .iaload 1 31 := ⟨by decide +kernel, rfl⟩
theorem d_n_fits_31 : DB b_n_fits 31 (.ifCond .ne 27) 27 34 58 := ⟨by decide +kernel, rfl, rfl⟩
theorem d_n_fits_34 : DD b_n_fits 34 (.aload_n 0) 1 35 := ⟨by decide +kernel, rfl⟩
theorem d_n_fits_35 : DD b_n_fits 35 (.getfield 9) 3 38 := ⟨by decide +kernel, rfl⟩
theorem d_n_fits_38 : DD b_n_fits 38 (.iconst 1) 1 39 := ⟨by decide +kernel, rfl⟩
theorem d_n_fits_39 : DD b_n_fits 39 .iaload 1 40 := ⟨by decide +kernel, rfl⟩
theorem d_n_fits_40 : DB b_n_fits 40 (.ifCond .ne 18) 18 43 58 := ⟨by decide +kernel, rfl, rfl⟩
theorem d_n_fits_43 : DD b_n_fits 43 (.aload_n 0) 1 44 := ⟨by decide +kernel, rfl⟩
theorem d_n_fits_44 : DD b_n_fits 44 (.getfield 9) 3 47 := ⟨by decide +kernel, rfl⟩
theorem d_n_fits_47 : DD b_n_fits 47 (.iconst 2) 1 48 := ⟨by decide +kernel, rfl⟩
theorem d_n_fits_48 : DD b_n_fits 48 .iaload 1 49 := ⟨by decide +kernel, rfl⟩
theorem d_n_fits_49 : DD b_n_fits 49 (.ldc 30) 2 51 := ⟨by decide +kernel, rfl⟩
theorem d_n_fits_51 : DB b_n_fits 51 (.if_icmp .ne 7) 7 54 58 := ⟨by decide +kernel, rfl, rfl⟩
theorem d_n_fits_54 : DD b_n_fits 54 (.iconst 1) 1 55 := ⟨by decide +kernel, rfl⟩
theorem d_n_fits_55 : DB b_n_fits 55 (.goto 4) 4 58 59 := ⟨by decide +kernel, rfl, rfl⟩
theorem d_n_fits_58 : DD b_n_fits 58 (.iconst 0) 1 59 := ⟨by decide +kernel, rfl⟩
theorem d_n_fits_59 : DD b_n_fits 59 .ireturn 1 60 := ⟨by decide +kernel, rfl⟩
set_option maxRecDepth 20000 in
set_option maxHeartbeats 4000000 in
theorem c_n_fits (l : Launch) (G : ZG) {t : Int} {σ : Mem} {K : Int → Prop} (h : wp_n_fits t σ K) (h_t : isN t) : Ct l G y_n_fits (.code y_n_fits b_n_fits 1 (some .boolean)) { frames := 2, cells := 0, slots := 0, locals := 41 } 0 0 4 [.ref (zA G t)] σ (fun r σ1 => σ = σ1 ∧ K r) (fun _ _ => False) := by
  unfold wp_n_fits at h
  refine Ct.ofZ [(0, .ref (zA G t))] "LimbDesk$Num" (by decide) rfl (Nat.le_of_ble_eq_true rfl) rfl ?_
  intro E hR hlE C hr hX
  subst hlE
  have hroom_n_bits : 1 + 1 ≤ (zR E).frames ∧ 8 + (1 + 11) + 21 ≤ (zR E).locals ∧ 0 + 0 ≤ (zR E).cells ∧ 0 + 0 ≤ (zR E).slots := by rw [hR]; decide
  clear hR
  obtain ⟨Q, hQ⟩ : ∃ Q, Q = MQX G (zb E) 4 (fun r σ1 => σ = σ1 ∧ K r) (fun _ _ => False) (zs E) 0 0 0 0 := ⟨_, rfl⟩
  show Z E G 1 0 0 (MQX G (zb E) 4 (fun r σ1 => σ = σ1 ∧ K r) (fun _ _ => False) (zs E) 0 0 0 0) σ 0 [(0, .ref (zA G t))] []
  rw [← hQ]
  refine z_aload_n C 0 d_n_fits_0 rfl ?_
  refine z_callV C "LimbDesk$Num" [] [] 0 d_n_fits_1 (c_n_bits (zl E) G h h_t) k_155 k_385 k_153 k_154 k_2 (by decide) (recv_N C h_t) (by decide +kernel) rfl rfl (Nat.le_of_ble_eq_true rfl) hroom_n_bits (fun r1 _s18 ok2 hq => ?_) (fun _ _ hx => hx.elim)
  obtain ⟨hs_, hk_⟩ := hq
  subst hs_
  have h := hk_
  refine z_bipush C d_n_fits_4 (by decide) ?_
  refine Jq0.walk (Z E G 1 0 0 Q σ 54 [] []) h ?_ ?_
  · intro h
    refine z_iconst C d_n_fits_54 ?_
    refine z_goto C d_n_fits_55 ?_
    subst hQ
    exact z_zreturn C d_n_fits_59.1 hr ⟨Nat.zero_le _, Nat.zero_le _⟩ (Or.inr rfl) ⟨rfl, h⟩
  · intro J3 HJ3 h
    refine z_icmp_lt C d_n_fits_6 ok2 (okI_lit rfl) (fun hb4 => ?_) (fun hb4 => ?_)
    · have h := h.1 hb4
      refine z_sub [] [] rfl ?_
      exact HJ3 h
    · have h := h.2 hb4
      refine z_aload_n C 0 d_n_fits_9 rfl ?_
      refine z_nget_sign C d_n_fits_10 k_33 h_t ?_
      obtain ⟨ok5, h⟩ := h
      refine Jq0.walk (Z E G 1 0 0 Q σ 58 [] []) h ?_ ?_
      · intro h
        refine z_iconst C d_n_fits_58 ?_
        subst hQ
        exact z_zreturn C d_n_fits_59.1 hr ⟨Nat.zero_le _, Nat.zero_le _⟩ (Or.inl rfl) ⟨rfl, h⟩
      · intro J6 HJ6 h
        refine z_if_ge C d_n_fits_13 ok5 (fun hb7 => ?_) (fun hb7 => ?_)
        · have h := h.1 hb7
          refine z_sub [] [] rfl ?_
          exact HJ6 h
        · have h := h.2 hb7
          refine z_aload_n C 0 d_n_fits_16 rfl ?_
          refine z_callV C "LimbDesk$Num" [] [] 0 d_n_fits_17 (c_n_bits (zl E) G h h_t) k_155 k_385 k_153 k_154 k_2 (by decide) (recv_N C h_t) (by decide +kernel) rfl rfl (Nat.le_of_ble_eq_true rfl) hroom_n_bits (fun r8 _s17 ok9 hq => ?_) (fun _ _ hx => hx.elim)
          obtain ⟨hs_, hk_⟩ := hq
          subst hs_
          have h := hk_
          refine z_bipush C d_n_fits_20 (by decide) ?_
          refine z_icmp_ne C d_n_fits_22 ok9 (okI_lit rfl) (fun hb10 => ?_) (fun hb10 => ?_)
          · have h := h.1 hb10
            refine z_sub [] [] rfl ?_
            exact HJ6 h
          · have h := h.2 hb10
            refine z_aload_n C 0 d_n_fits_25 rfl ?_
            refine z_nget_d C d_n_fits_26 k_30 h_t ?_
            refine z_iconst C d_n_fits_29 ?_
            refine z_ialdN C (600) d_n_fits_30 (isN.A h_t) (ln_num h_t) ⟨by decide, by decide⟩ ?_
            obtain ⟨ok11, h⟩ := h
            refine z_if_ne C d_n_fits_31 ok11 (fun hb12 => ?_) (fun hb12 => ?_)
            · have h := h.1 hb12
              refine z_sub [] [] rfl ?_
              exact HJ6 h
            · have h := h.2 hb12
              refine z_aload_n C 0 d_n_fits_34 rfl ?_
              refine z_nget_d C d_n_fits_35 k_30 h_t ?_
              refine z_iconst C d_n_fits_38 ?_
              refine z_ialdN C (600) d_n_fits_39 (isN.A h_t) (ln_num h_t) ⟨by decide, by decide⟩ ?_
              obtain ⟨ok13, h⟩ := h
              refine z_if_ne C d_n_fits_40 ok13 (fun hb14 => ?_) (fun hb14 => ?_)
              · have h := h.1 hb14
                refine z_sub [] [] rfl ?_
                exact HJ6 h
              · have h := h.2 hb14
                refine z_aload_n C 0 d_n_fits_43 rfl ?_
                refine z_nget_d C d_n_fits_44 k_30 h_t ?_
                refine z_iconst C d_n_fits_47 ?_
                refine z_ialdN C (600) d_n_fits_48 (isN.A h_t) (ln_num h_t) ⟨by decide, by decide⟩ ?_
                refine z_ldc C d_n_fits_49 k_420 (n := 32768) (by decide) ?_
                obtain ⟨ok15, h⟩ := h
                refine z_icmp_ne C d_n_fits_51 ok15 (okI_lit rfl) (fun hb16 => ?_) (fun hb16 => ?_)
                · have h := h.1 hb16
                  refine z_sub [] [] rfl ?_
                  exact HJ6 h
                · have h := h.2 hb16
                  refine z_sub [] [] rfl ?_
                  exact HJ3 h
theorem d_n_small_0 : DD b_n_small 0 (.lconst 0) 1 1 := ⟨by decide +kernel, rfl⟩
theorem d_n_small_1 : DD b_n_small 1 (.lstore_n 1) 1 2 := ⟨by decide +kernel, rfl⟩
theorem d_n_small_2 : DD b_n_small 2 (.aload_n 0) 1 3 := ⟨by decide +kernel, rfl⟩
theorem d_n_small_3 : DD b_n_small 3 (.getfield 13) 3 6 := ⟨by decide +kernel, rfl⟩
theorem d_n_small_6 : DD b_n_small 6 (.iconst 3) 1 7 := ⟨by decide +kernel, rfl⟩
theorem d_n_small_7 : DD b_n_small 7 (.invokestatic 31) 3 10 := ⟨by decide +kernel, rfl⟩
theorem d_n_small_10 : DD b_n_small 10 (.iconst 1) 1 11 := ⟨by decide +kernel, rfl⟩
theorem d_n_small_11 : DD b_n_small 11 .isub 1 12 := ⟨by decide +kernel, rfl⟩
theorem d_n_small_12 : DD b_n_small 12 (.istore_n 3) 1 13 := ⟨by decide +kernel, rfl⟩
theorem d_n_small_13 : DD b_n_small 13 (.iload_n 3) 1 14 := ⟨by decide +kernel, rfl⟩
theorem d_n_small_14 : DB b_n_small 14 (.ifCond .lt 22) 22 17 36 := ⟨by decide +kernel, rfl, rfl⟩
theorem d_n_small_17 : DD b_n_small 17 (.lload_n 1) 1 18 := ⟨by decide +kernel, rfl⟩
theorem d_n_small_18 : DD b_n_small 18 (.bipush 24) 2 20 := ⟨by decide +kernel, rfl⟩
theorem d_n_small_20 : DD b_n_small 20 .lshl 1 21 := ⟨by decide +kernel, rfl⟩
theorem d_n_small_21 : DD b_n_small 21 (.aload_n 0) 1 22 := ⟨by decide +kernel, rfl⟩
theorem d_n_small_22 : DD b_n_small 22 (.getfield 9) 3 25 := ⟨by decide +kernel, rfl⟩
theorem d_n_small_25 : DD b_n_small 25 (.iload_n 3) 1 26 := ⟨by decide +kernel, rfl⟩
theorem d_n_small_26 : DD b_n_small 26 .iaload 1 27 := ⟨by decide +kernel, rfl⟩
theorem d_n_small_27 : DD b_n_small 27 .i2l 1 28 := ⟨by decide +kernel, rfl⟩
theorem d_n_small_28 : DD b_n_small 28 .lor 1 29 := ⟨by decide +kernel, rfl⟩
theorem d_n_small_29 : DD b_n_small 29 (.lstore_n 1) 1 30 := ⟨by decide +kernel, rfl⟩
theorem d_n_small_30 : DD b_n_small 30 (.iinc 3 (-1)) 3 33 := ⟨by decide +kernel, rfl⟩
theorem d_n_small_33 : DB b_n_small 33 (.goto (-20)) (-20) 36 13 := ⟨by decide +kernel, rfl, rfl⟩
theorem d_n_small_36 : DD b_n_small 36 (.aload_n 0) 1 37 := ⟨by decide +kernel, rfl⟩
theorem d_n_small_37 : DD b_n_small 37 (.getfield 17) 3 40 := ⟨by decide +kernel, rfl⟩
theorem d_n_small_40 : DB b_n_small 40 (.ifCond .ge 8) 8 43 48 := ⟨by decide +kernel, rfl, rfl⟩
theorem d_n_small_43 : DD b_n_small 43 (.lload_n 1) 1 44 := ⟨by decide +kernel, rfl⟩
theorem d_n_small_44 : DD b_n_small 44 .lneg 1 45 := ⟨by decide +kernel, rfl⟩
theorem d_n_small_45 : DB b_n_small 45 (.goto 4) 4 48 49 := ⟨by decide +kernel, rfl, rfl⟩
theorem d_n_small_48 : DD b_n_small 48 (.lload_n 1) 1 49 := ⟨by decide +kernel, rfl⟩
theorem d_n_small_49 : DD b_n_small 49 .lreturn 1 50 := ⟨by decide +kernel, rfl⟩
set_option maxRecDepth 20000 in
set_option maxHeartbeats 4000000 in
theorem c_n_small (l : Launch) (G : ZG) {t : Int} {σ : Mem} {K : Int → Prop} (h : wp_n_small t σ K) (h_t : isN t) : Ct l G y_n_small (.code y_n_small b_n_small 4 (some .long)) { frames := 1, cells := 0, slots := 0, locals := 21 } 0 0 2 [.ref (zA G t)] σ (fun r σ1 => σ = σ1 ∧ K r) (fun _ _ => False) := by
  unfold wp_n_small at h
  refine Ct.ofZ [(0, .ref (zA G t))] "LimbDesk$Num" (by decide) rfl (Nat.le_of_ble_eq_true rfl) rfl ?_
  intro E hR hlE C hr hX
  subst hlE
  have hroom_math : 1 ≤ (zR E).frames ∧ 8 + 13 ≤ (zR E).locals ∧ 0 ≤ (zR E).cells ∧ 0 ≤ (zR E).slots := by rw [hR]; decide
  clear hR
  obtain ⟨Q, hQ⟩ : ∃ Q, Q = MQX G (zb E) 2 (fun r σ1 => σ = σ1 ∧ K r) (fun _ _ => False) (zs E) 0 0 0 0 := ⟨_, rfl⟩
  show Z E G 4 0 0 (MQX G (zb E) 2 (fun r σ1 => σ = σ1 ∧ K r) (fun _ _ => False) (zs E) 0 0 0 0) σ 0 [(0, .ref (zA G t))] []
  rw [← hQ]
  refine z_lconst C d_n_small_0 ?_
  refine z_lstore_n C [(1, .long (lL 0)), (0, .ref (zA G t))] d_n_small_1 (by decide) rfl ?_
  refine z_aload_n C 1 d_n_small_2 rfl ?_
  refine z_nget_n C d_n_small_3 k_32 h_t ?_
  refine z_iconst C d_n_small_6 ?_
  obtain ⟨ok1, h⟩ := h
  refine z_min C d_n_small_7 k_425 k_426 k_13 k_427 ok1 (okI_lit rfl) (Nat.le_of_ble_eq_true rfl) hroom_math ?_
  refine z_iconst C d_n_small_10 ?_
  refine z_isub C d_n_small_11 ?_
  refine z_namei (fun v3_2 e3 => ?_)
  have h := h v3_2 e3
  refine z_istore_n C [(3, .int (iI v3_2)), (1, .long (lL 0)), (0, .ref (zA G t))] d_n_small_12 (by decide) rfl ?_
  obtain ⟨ok6, h⟩ := h
  refine z_sub [(0, .ref (zA G t)), (1, .long (lL 0)), (3, .int (iI v3_2))] [2, 1, 0] rfl ?_
  refine (Lq2.walk (P := fun v1_4 v3_5 => okI v3_5 → Z E G 4 0 0 Q σ 13 [(0, .ref (zA G t)), (1, .long (lL v1_4)), (3, .int (iI v3_5))] []) ?_ h) ok6
  intro v1_4 v3_5 again8 Hagain8 h ok7
  refine z_iload_n C 2 d_n_small_13 rfl ?_
  refine z_if_lt C d_n_small_14 ok7 (fun hb9 => ?_) (fun hb9 => ?_)
  · have h := h.1 hb9
    refine z_aload_n C 0 d_n_small_36 rfl ?_
    refine z_nget_sign C d_n_small_37 k_33 h_t ?_
    obtain ⟨ok10, h⟩ := h
    have hj : ∀ s12 : Int, s12 = (if 0 ≤ (σ t 2) then v1_4 else (-v1_4)) → Z E G 4 0 0 Q σ 49 [(0, .ref (zA G t)), (1, .long (lL v1_4)), (3, .int (iI v3_5))] [.long (lL s12)] := by
      intro s12 e13
      have h := h s12 e13
      obtain ⟨ok14, h⟩ := h
      subst hQ
      exact z_lreturn C d_n_small_49.1 hr ⟨Nat.zero_le _, Nat.zero_le _⟩ ok14 ⟨rfl, h⟩
    clear h
    refine z_if_ge C d_n_small_40 ok10 (fun hb11 => ?_) (fun hb11 => ?_)
    · refine z_lload_n C 1 d_n_small_48 rfl ?_
      exact hj _ (if_pos hb11).symm
    · refine z_lload_n C 1 d_n_small_43 rfl ?_
      refine z_lneg C d_n_small_44 ?_
      refine z_goto C d_n_small_45 ?_
      exact hj _ (if_neg (Int.not_le.mpr hb11)).symm
  · have h := h.2 hb9
    refine z_lload_n C 1 d_n_small_17 rfl ?_
    refine z_bipush C d_n_small_18 (by decide) ?_
    refine z_lshlK C 16777216 d_n_small_20 (by decide) ⟨by decide, by decide⟩ ?_
    refine z_aload_n C 0 d_n_small_21 rfl ?_
    refine z_nget_d C d_n_small_22 k_30 h_t ?_
    refine z_iload_n C 2 d_n_small_25 rfl ?_
    obtain ⟨hc15, h⟩ := h
    refine z_ialdN C (600) d_n_small_26 (isN.A h_t) (ln_num h_t) hc15 ?_
    obtain ⟨ok16, h⟩ := h
    refine z_i2l C d_n_small_27 ok16 ?_
    refine z_lor C d_n_small_28 ?_
    refine z_namel (fun v1_17 e18 => ?_)
    have h := h v1_17 e18
    have ok19 : okL v1_17 := by rw [e18]; exact (okL_or _ _)
    refine z_lstore_n C [(1, .long (lL v1_17)), (0, .ref (zA G t)), (3, .int (iI v3_5))] d_n_small_29 (by decide) rfl ?_
    refine z_iinc C 2 [(3, .int (iI (v3_5 + (-1)))), (1, .long (lL v1_17)), (0, .ref (zA G t))] d_n_small_30 rfl (by decide) rfl ?_
    refine z_goto C d_n_small_33 ?_
    obtain ⟨ok20, h⟩ := h
    refine z_sub [(0, .ref (zA G t)), (1, .long (lL v1_17)), (3, .int (iI (v3_5 + (-1))))] [2, 1, 0] rfl ?_
    exact Hagain8 _ _ h ok20
theorem d_n_limbs_0 : DD b_n_limbs 0 (.aload_n 0) 1 1 := ⟨by decide +kernel, rfl⟩
theorem d_n_limbs_1 : DD b_n_limbs 1 (.getfield 13) 3 4 := ⟨by decide +kernel, rfl⟩
theorem d_n_limbs_4 : DD b_n_limbs 4 (.aload_n 1) 1 5 := ⟨by decide +kernel, rfl⟩
theorem d_n_limbs_5 : DD b_n_limbs 5 (.getfield 13) 3 8 := ⟨by decide +kernel, rfl⟩
theorem d_n_limbs_8 : DB b_n_limbs 8 (.if_icmp .eq 20) 20 11 28 := ⟨by decide +kernel, rfl, rfl⟩
theorem d_n_limbs_11 : DD b_n_limbs 11 (.aload_n 0) 1 12 := ⟨by decide +kernel, rfl⟩
theorem d_n_limbs_12 : DD b_n_limbs 12 (.getfield 13) 3 15 := ⟨by decide +kernel, rfl⟩
theorem d_n_limbs_15 : DD b_n_limbs 15 (.aload_n 1) 1 16 := ⟨by decide +kernel, rfl⟩
theorem d_n_limbs_16 : DD b_n_limbs 16 (.getfield 13) 3 19 := ⟨by decide +kernel, rfl⟩
theorem d_n_limbs_19 : DB b_n_limbs 19 (.if_icmp .ge 7) 7 22 26 := ⟨by decide +kernel, rfl, rfl⟩
theorem d_n_limbs_22 : DD b_n_limbs 22 (.iconst (-1)) 1 23 := ⟨by decide +kernel, rfl⟩
theorem d_n_limbs_23 : DB b_n_limbs 23 (.goto 4) 4 26 27 := ⟨by decide +kernel, rfl, rfl⟩
theorem d_n_limbs_26 : DD b_n_limbs 26 (.iconst 1) 1 27 := ⟨by decide +kernel, rfl⟩
theorem d_n_limbs_27 : DD b_n_limbs 27 .ireturn 1 28 := ⟨by decide +kernel, rfl⟩
theorem d_n_limbs_28 : DD b_n_limbs 28 (.aload_n 0) 1 29 := ⟨by decide +kernel, rfl⟩
theorem d_n_limbs_29 : DD b_n_limbs 29 (.getfield 13) 3 32 := ⟨by decide +kernel, rfl⟩
theorem d_n_limbs_32 : DD b_n_limbs 32 (.iconst 1) 1 33 := ⟨by decide +kernel, rfl⟩
theorem d_n_limbs_33 : DD b_n_limbs 33 .isub 1 34 := ⟨by decide +kernel, rfl⟩
theorem d_n_limbs_34 : DD b_n_limbs 34 (.istore_n 2) 1 35 := ⟨by decide +kernel, rfl⟩
theorem d_n_limbs_35 : DD b_n_limbs 35 (.iload_n 2) 1 36 := ⟨by decide +kernel, rfl⟩
theorem d_n_limbs_36 : DB b_n_limbs 36 (.ifCond .lt 45) 45 39 81 := ⟨by decide +kernel, rfl, rfl⟩
theorem d_n_limbs_39 : DD b_n_limbs 39 (.aload_n 0) 1 40 := ⟨by decide +kernel, rfl⟩
theorem d_n_limbs_40 : DD b_n_limbs 40 (.getfield 9) 3 43 := ⟨by decide +kernel, rfl⟩
theorem d_n_limbs_43 : DD b_n_limbs 43 (.iload_n 2) 1 44 := ⟨by decide +kernel, rfl⟩
theorem d_n_limbs_44 : DD b_n_limbs 44 .iaload 1 45 := ⟨by decide +kernel, rfl⟩
theorem d_n_limbs_45 : DD b_n_limbs 45 (.aload_n 1) 1 46 := ⟨by decide +kernel, rfl⟩
theorem d_n_limbs_46 : DD b_n_limbs 46 (.getfield 9) 3 49 := ⟨by decide +kernel, rfl⟩
theorem d_n_limbs_49 : DD b_n_limbs 49 (.iload_n 2) 1 50 := ⟨by decide +kernel, rfl⟩
theorem d_n_limbs_50 : DD b_n_limbs 50 .iaload 1 51 := ⟨by decide +kernel, rfl⟩
theorem d_n_limbs_51 : DB b_n_limbs 51 (.if_icmp .eq 24) 24 54 75 := ⟨by decide +kernel, rfl, rfl⟩
theorem d_n_limbs_54 : DD b_n_limbs 54 (.aload_n 0) 1 55 := ⟨by decide +kernel, rfl⟩
theorem d_n_limbs_55 : DD b_n_limbs 55 (.getfield 9) 3 58 := ⟨by decide +kernel, rfl⟩
theorem d_n_limbs_58 : DD b_n_limbs 58 (.iload_n 2) 1 59 := ⟨by decide +kernel, rfl⟩
theorem d_n_limbs_59 : DD b_n_limbs 59 .iaload 1 60 := ⟨by decide +kernel, rfl⟩
theorem d_n_limbs_60 : DD b_n_limbs 60 (.aload_n 1) 1 61 := ⟨by decide +kernel, rfl⟩
theorem d_n_limbs_61 : DD b_n_limbs 61 (.getfield 9) 3 64 := ⟨by decide +kernel, rfl⟩
theorem d_n_limbs_64 : DD b_n_limbs 64 (.iload_n 2) 1 65 := ⟨by decide +kernel, rfl⟩
theorem d_n_limbs_65 : DD b_n_limbs 65 .iaload 1 66 := ⟨by decide +kernel, rfl⟩
theorem d_n_limbs_66 : DB b_n_limbs 66 (.if_icmp .ge 7) 7 69 73 := ⟨by decide +kernel, rfl, rfl⟩
theorem d_n_limbs_69 : DD b_n_limbs 69 (.iconst (-1)) 1 70 := ⟨by decide +kernel, rfl⟩
theorem d_n_limbs_70 : DB b_n_limbs 70 (.goto 4) 4 73 74 := ⟨by decide +kernel, rfl, rfl⟩
theorem d_n_limbs_73 : DD b_n_limbs 73 (.iconst 1) 1 74 := ⟨by decide +kernel, rfl⟩
theorem d_n_limbs_74 : DD b_n_limbs 74 .ireturn 1 75 := ⟨by decide +kernel, rfl⟩
theorem d_n_limbs_75 : DD b_n_limbs 75 (.iinc 2 (-1)) 3 78 := ⟨by decide +kernel, rfl⟩
theorem d_n_limbs_78 : DB b_n_limbs 78 (.goto (-43)) (-43) 81 35 := ⟨by decide +kernel, rfl, rfl⟩
theorem d_n_limbs_81 : DD b_n_limbs 81 (.iconst 0) 1 82 := ⟨by decide +kernel, rfl⟩
theorem d_n_limbs_82 : DD b_n_limbs 82 .ireturn 1 83 := ⟨by decide +kernel, rfl⟩
set_option maxRecDepth 20000 in
set_option maxHeartbeats 4000000 in
theorem c_n_limbs (l : Launch) (G : ZG) {a b : Int} {σ : Mem} {K : Int → Prop} (h : wp_n_limbs a b σ K) (h_a : isN a) (h_b : isN b) : Ct l G y_n_limbs (.code y_n_limbs b_n_limbs 3 (some .int)) { frames := 0, cells := 0, slots := 0, locals := 0 } 0 0 1 [.ref (zA G a), .ref (zA G b)] σ (fun r σ1 => σ = σ1 ∧ K r) (fun _ _ => False) := by
  unfold wp_n_limbs at h
  refine Ct.ofZ [(0, .ref (zA G a)), (1, .ref (zA G b))] "LimbDesk$Num" (by decide) rfl (Nat.le_of_ble_eq_true rfl) rfl ?_
  intro E hR hlE C hr hX
  subst hlE
  clear hR
  obtain ⟨Q, hQ⟩ : ∃ Q, Q = MQX G (zb E) 1 (fun r σ1 => σ = σ1 ∧ K r) (fun _ _ => False) (zs E) 0 0 0 0 := ⟨_, rfl⟩
  show Z E G 3 0 0 (MQX G (zb E) 1 (fun r σ1 => σ = σ1 ∧ K r) (fun _ _ => False) (zs E) 0 0 0 0) σ 0 [(0, .ref (zA G a)), (1, .ref (zA G b))] []
  rw [← hQ]
  refine z_aload_n C 0 d_n_limbs_0 rfl ?_
  refine z_nget_n C d_n_limbs_1 k_32 h_a ?_
  refine z_aload_n C 1 d_n_limbs_4 rfl ?_
  refine z_nget_n C d_n_limbs_5 k_32 h_b ?_
  obtain ⟨ok1, h⟩ := h
  obtain ⟨ok2, h⟩ := h
  refine z_icmp_eq C d_n_limbs_8 ok1 ok2 (fun hb3 => ?_) (fun hb3 => ?_)
  · have h := h.1 hb3
    refine z_aload_n C 0 d_n_limbs_28 rfl ?_
    refine z_nget_n C d_n_limbs_29 k_32 h_a ?_
    refine z_iconst C d_n_limbs_32 ?_
    refine z_isub C d_n_limbs_33 ?_
    refine z_namei (fun v2_4 e5 => ?_)
    have h := h v2_4 e5
    refine z_istore_n C [(2, .int (iI v2_4)), (0, .ref (zA G a)), (1, .ref (zA G b))] d_n_limbs_34 (by decide) rfl ?_
    obtain ⟨ok7, h⟩ := h
    refine z_sub [(0, .ref (zA G a)), (1, .ref (zA G b)), (2, .int (iI v2_4))] [1, 2, 0] rfl ?_
    refine (Lq1.walk (P := fun v2_6 => okI v2_6 → Z E G 3 0 0 Q σ 35 [(0, .ref (zA G a)), (1, .ref (zA G b)), (2, .int (iI v2_6))] []) ?_ h) ok7
    intro v2_6 again9 Hagain9 h ok8
    refine z_iload_n C 2 d_n_limbs_35 rfl ?_
    refine z_if_lt C d_n_limbs_36 ok8 (fun hb10 => ?_) (fun hb10 => ?_)
    · have h := h.1 hb10
      refine z_iconst C d_n_limbs_81 ?_
      subst hQ
      exact z_ireturn C d_n_limbs_82.1 hr ⟨Nat.zero_le _, Nat.zero_le _⟩ (okI_lit rfl) ⟨rfl, h⟩
    · have h := h.2 hb10
      refine z_aload_n C 0 d_n_limbs_39 rfl ?_
      refine z_nget_d C d_n_limbs_40 k_30 h_a ?_
      refine z_iload_n C 2 d_n_limbs_43 rfl ?_
      obtain ⟨hc11, h⟩ := h
      refine z_ialdN C (600) d_n_limbs_44 (isN.A h_a) (ln_num h_a) hc11 ?_
      refine z_aload_n C 1 d_n_limbs_45 rfl ?_
      refine z_nget_d C d_n_limbs_46 k_30 h_b ?_
      refine z_iload_n C 2 d_n_limbs_49 rfl ?_
      refine z_ialdN C (600) d_n_limbs_50 (isN.A h_b) (ln_num h_b) hc11 ?_
      obtain ⟨ok12, h⟩ := h
      obtain ⟨ok13, h⟩ := h
      refine z_icmp_eq C d_n_limbs_51 ok12 ok13 (fun hb14 => ?_) (fun hb14 => ?_)
      · have h := h.1 hb14
        refine z_iinc C 2 [(2, .int (iI (v2_6 + (-1)))), (0, .ref (zA G a)), (1, .ref (zA G b))] d_n_limbs_75 rfl (by decide) rfl ?_
        refine z_goto C d_n_limbs_78 ?_
        obtain ⟨ok15, h⟩ := h
        refine z_sub [(0, .ref (zA G a)), (1, .ref (zA G b)), (2, .int (iI (v2_6 + (-1))))] [1, 2, 0] rfl ?_
        exact Hagain9 _ h ok15
      · have h := h.2 hb14
        refine z_aload_n C 0 d_n_limbs_54 rfl ?_
        refine z_nget_d C d_n_limbs_55 k_30 h_a ?_
        refine z_iload_n C 2 d_n_limbs_58 rfl ?_
        refine z_ialdN C (600) d_n_limbs_59 (isN.A h_a) (ln_num h_a) hc11 ?_
        refine z_aload_n C 1 d_n_limbs_60 rfl ?_
        refine z_nget_d C d_n_limbs_61 k_30 h_b ?_
        refine z_iload_n C 2 d_n_limbs_64 rfl ?_
        refine z_ialdN C (600) d_n_limbs_65 (isN.A h_b) (ln_num h_b) hc11 ?_
        have hj : ∀ s17 : Int, s17 = (if (σ (21 + b) v2_6) ≤ (σ (21 + a) v2_6) then 1 else (-1)) → Z E G 3 0 0 Q σ 74 [(0, .ref (zA G a)), (1, .ref (zA G b)), (2, .int (iI v2_6))] [.int (iI s17)] := by
          intro s17 e18
          have h := h s17 e18
          have ok19 : okI s17 := by rw [e18]; split; exact (okI_lit rfl); exact (okI_lit rfl)
          subst hQ
          exact z_ireturn C d_n_limbs_74.1 hr ⟨Nat.zero_le _, Nat.zero_le _⟩ ok19 ⟨rfl, h⟩
        clear h
        refine z_icmp_ge C d_n_limbs_66 ok12 ok13 (fun hb16 => ?_) (fun hb16 => ?_)
        · refine z_iconst C d_n_limbs_73 ?_
          exact hj _ (if_pos hb16).symm
        · refine z_iconst C d_n_limbs_69 ?_
          refine z_goto C d_n_limbs_70 ?_
          exact hj _ (if_neg (Int.not_le.mpr hb16)).symm
  · have h := h.2 hb3
    refine z_aload_n C 0 d_n_limbs_11 rfl ?_
    refine z_nget_n C d_n_limbs_12 k_32 h_a ?_
    refine z_aload_n C 1 d_n_limbs_15 rfl ?_
    refine z_nget_n C d_n_limbs_16 k_32 h_b ?_
    have hj : ∀ s21 : Int, s21 = (if (σ b 1) ≤ (σ a 1) then 1 else (-1)) → Z E G 3 0 0 Q σ 27 [(0, .ref (zA G a)), (1, .ref (zA G b))] [.int (iI s21)] := by
      intro s21 e22
      have h := h s21 e22
      have ok23 : okI s21 := by rw [e22]; split; exact (okI_lit rfl); exact (okI_lit rfl)
      subst hQ
      exact z_ireturn C d_n_limbs_27.1 hr ⟨Nat.zero_le _, Nat.zero_le _⟩ ok23 ⟨rfl, h⟩
    clear h
    refine z_icmp_ge C d_n_limbs_19 ok1 ok2 (fun hb20 => ?_) (fun hb20 => ?_)
    · refine z_iconst C d_n_limbs_26 ?_
      exact hj _ (if_pos hb20).symm
    · refine z_iconst C d_n_limbs_22 ?_
      refine z_goto C d_n_limbs_23 ?_
      exact hj _ (if_neg (Int.not_le.mpr hb20)).symm
theorem d_n_compare_0 : DD b_n_compare 0 (.aload_n 0) 1 1 := ⟨by decide +kernel, rfl⟩
theorem d_n_compare_1 : DD b_n_compare 1 (.getfield 17) 3 4 := ⟨by decide +kernel, rfl⟩
theorem d_n_compare_4 : DD b_n_compare 4 (.aload_n 1) 1 5 := ⟨by decide +kernel, rfl⟩
theorem d_n_compare_5 : DD b_n_compare 5 (.getfield 17) 3 8 := ⟨by decide +kernel, rfl⟩
theorem d_n_compare_8 : DB b_n_compare 8 (.if_icmp .eq 20) 20 11 28 := ⟨by decide +kernel, rfl, rfl⟩
theorem d_n_compare_11 : DD b_n_compare 11 (.aload_n 0) 1 12 := ⟨by decide +kernel, rfl⟩
theorem d_n_compare_12 : DD b_n_compare 12 (.getfield 17) 3 15 := ⟨by decide +kernel, rfl⟩
theorem d_n_compare_15 : DD b_n_compare 15 (.aload_n 1) 1 16 := ⟨by decide +kernel, rfl⟩
theorem d_n_compare_16 : DD b_n_compare 16 (.getfield 17) 3 19 := ⟨by decide +kernel, rfl⟩
theorem d_n_compare_19 : DB b_n_compare 19 (.if_icmp .ge 7) 7 22 26 := ⟨by decide +kernel, rfl, rfl⟩
theorem d_n_compare_22 : DD b_n_compare 22 (.iconst (-1)) 1 23 := ⟨by decide +kernel, rfl⟩
theorem d_n_compare_23 : DB b_n_compare 23 (.goto 4) 4 26 27 := ⟨by decide +kernel, rfl, rfl⟩
theorem d_n_compare_26 : DD b_n_compare 26 (.iconst 1) 1 27 := ⟨by decide +kernel, rfl⟩
theorem d_n_compare_27 : DD b_n_compare 27 .ireturn 1 28 := ⟨by decide +kernel, rfl⟩
theorem d_n_compare_28 : DD b_n_compare 28 (.aload_n 0) 1 29 := ⟨by decide +kernel, rfl⟩
theorem d_n_compare_29 : DD b_n_compare 29 (.getfield 17) 3 32 := ⟨by decide +kernel, rfl⟩
theorem d_n_compare_32 : DD b_n_compare 32 (.aload_n 0) 1 33 := ⟨by decide +kernel, rfl⟩
theorem d_n_compare_33 : DD b_n_compare 33 (.aload_n 1) 1 34 := ⟨by decide +kernel, rfl⟩
theorem d_n_compare_34 : DD b_n_compare 34 (.invokestatic 43) 3 37 := ⟨by decide +kernel, rfl⟩
theorem d_n_compare_37 : DD b_n_compare 37 .imul 1 38 := ⟨by decide +kernel, rfl⟩
theorem d_n_compare_38 : DD b_n_compare 38 .ireturn 1 39 := ⟨by decide +kernel, rfl⟩
set_option maxRecDepth 20000 in
set_option maxHeartbeats 4000000 in
theorem c_n_compare (l : Launch) (G : ZG) {t o : Int} {σ : Mem} {K : Int → Prop} (h : wp_n_compare t o σ K) (h_t : isN t) (h_o : isN o) : Ct l G y_n_compare (.code y_n_compare b_n_compare 2 (some .int)) { frames := 1, cells := 0, slots := 0, locals := 22 } 0 0 1 [.ref (zA G t), .ref (zA G o)] σ (fun r σ1 => σ = σ1 ∧ K r) (fun _ _ => False) := by
  unfold wp_n_compare at h
  refine Ct.ofZ [(0, .ref (zA G t)), (1, .ref (zA G o))] "LimbDesk$Num" (by decide) rfl (Nat.le_of_ble_eq_true rfl) rfl ?_
  intro E hR hlE C hr hX
  subst hlE
  have hroom_n_limbs : 0 + 1 ≤ (zR E).frames ∧ 8 + (3 + 11) + 0 ≤ (zR E).locals ∧ 0 + 0 ≤ (zR E).cells ∧ 0 + 0 ≤ (zR E).slots := by rw [hR]; decide
  clear hR
  obtain ⟨Q, hQ⟩ : ∃ Q, Q = MQX G (zb E) 1 (fun r σ1 => σ = σ1 ∧ K r) (fun _ _ => False) (zs E) 0 0 0 0 := ⟨_, rfl⟩
  show Z E G 2 0 0 (MQX G (zb E) 1 (fun r σ1 => σ = σ1 ∧ K r) (fun _ _ => False) (zs E) 0 0 0 0) σ 0 [(0, .ref (zA G t)), (1, .ref (zA G o))] []
  rw [← hQ]
  refine z_aload_n C 0 d_n_compare_0 rfl ?_
  refine z_nget_sign C d_n_compare_1 k_33 h_t ?_
  refine z_aload_n C 1 d_n_compare_4 rfl ?_
  refine z_nget_sign C d_n_compare_5 k_33 h_o ?_
  obtain ⟨ok1, h⟩ := h
  obtain ⟨ok2, h⟩ := h
  refine z_icmp_eq C d_n_compare_8 ok1 ok2 (fun hb3 => ?_) (fun hb3 => ?_)
  · have h := h.1 hb3
    refine z_aload_n C 0 d_n_compare_28 rfl ?_
    refine z_nget_sign C d_n_compare_29 k_33 h_t ?_
    refine z_aload_n C 0 d_n_compare_32 rfl ?_
    refine z_aload_n C 1 d_n_compare_33 rfl ?_
    refine z_callS C [.ref (zA G t), .ref (zA G o)] [.int (iI (σ t 2))] 2 d_n_compare_34 (c_n_limbs (zl E) G h h_t h_o) k_308 k_306 k_307 k_2 (by decide)  (by decide +kernel) rfl rfl (Nat.le_of_ble_eq_true rfl) hroom_n_limbs (fun r4 _s7 ok5 hq => ?_) (fun _ _ hx => hx.elim)
    obtain ⟨hs_, hk_⟩ := hq
    subst hs_
    have h := hk_
    refine z_imul C d_n_compare_37 ?_
    obtain ⟨ok6, h⟩ := h
    subst hQ
    exact z_ireturn C d_n_compare_38.1 hr ⟨Nat.zero_le _, Nat.zero_le _⟩ ok6 ⟨rfl, h⟩
  · have h := h.2 hb3
    refine z_aload_n C 0 d_n_compare_11 rfl ?_
    refine z_nget_sign C d_n_compare_12 k_33 h_t ?_
    refine z_aload_n C 1 d_n_compare_15 rfl ?_
    refine z_nget_sign C d_n_compare_16 k_33 h_o ?_
    have hj : ∀ s9 : Int, s9 = (if (σ o 2) ≤ (σ t 2) then 1 else (-1)) → Z E G 2 0 0 Q σ 27 [(0, .ref (zA G t)), (1, .ref (zA G o))] [.int (iI s9)] := by
      intro s9 e10
      have h := h s9 e10
      have ok11 : okI s9 := by rw [e10]; split; exact (okI_lit rfl); exact (okI_lit rfl)
      subst hQ
      exact z_ireturn C d_n_compare_27.1 hr ⟨Nat.zero_le _, Nat.zero_le _⟩ ok11 ⟨rfl, h⟩
    clear h
    refine z_icmp_ge C d_n_compare_19 ok1 ok2 (fun hb8 => ?_) (fun hb8 => ?_)
    · refine z_iconst C d_n_compare_26 ?_
      exact hj _ (if_pos hb8).symm
    · refine z_iconst C d_n_compare_22 ?_
      refine z_goto C d_n_compare_23 ?_
      exact hj _ (if_neg (Int.not_le.mpr hb8)).symm
