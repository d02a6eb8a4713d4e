/-! Walks, printed by gen/gen.py. -/
theorem d_m_thrown_0 : DD b_m_thrown 0 (.aload_n 0) 1 1 := ⟨by decide +kernel, rfl⟩
theorem d_m_thrown_1 : DD b_m_thrown 1 (.getfield 49) 3 4 := ⟨by decide +kernel, rfl⟩
theorem d_m_thrown_4 : DD b_m_thrown 4 .ireturn 1 5 := ⟨by decide +kernel, rfl⟩
set_option maxRecDepth 20000 in
set_option maxHeartbeats 4000000 in
theorem c_m_thrown (l : Launch) (G : ZG) {σ : Mem} {K : Int → Prop} (h : wp_m_thrown σ K) : Ct l G y_m_thrown (.code y_m_thrown b_m_thrown 1 (some .int)) { frames := 0, cells := 0, slots := 0, locals := 0 } 0 0 1 [.ref (zA G 45)] σ (fun r σ1 => σ = σ1 ∧ K r) (fun _ _ => False) := by
  unfold wp_m_thrown at h
  refine Ct.ofZ [(0, .ref (zA G 45))] "LimbDeskModel" (by decide) rfl (Nat.le_of_ble_eq_true rfl) rfl ?_
  intro E hR hlE C hr hX
  subst hlE
  clear hR
  obtain ⟨Q, hQ⟩ : ∃ Q, Q = MQX G (zb E) 1 (fun r σ1 => σ = σ1 ∧ K r) (fun _ _ => False) (zs E) 0 0 0 0 := ⟨_, rfl⟩
  show Z E G 1 0 0 (MQX G (zb E) 1 (fun r σ1 => σ = σ1 ∧ K r) (fun _ _ => False) (zs E) 0 0 0 0) σ 0 [(0, .ref (zA G 45))] []
  rw [← hQ]
  refine z_aload_n C 0 d_m_thrown_0 rfl ?_
  refine z_mget C 0 d_m_thrown_1 (by decide) k_460 rfl rfl ?_
  obtain ⟨ok1, h⟩ := h
  subst hQ
  exact z_ireturn C d_m_thrown_4.1 hr ⟨Nat.zero_le _, Nat.zero_le _⟩ ok1 ⟨rfl, h⟩
theorem d_m_compared_0 : DD b_m_compared 0 (.iload_n 1) 1 1 := ⟨by decide +kernel, rfl⟩
theorem d_m_compared_1 : DD b_m_compared 1 (.iload_n 3) 1 2 := ⟨by decide +kernel, rfl⟩
theorem d_m_compared_2 : DB b_m_compared 2 (.if_icmp .eq 14) 14 5 16 := ⟨by decide +kernel, rfl, rfl⟩
theorem d_m_compared_5 : DD b_m_compared 5 (.iload_n 1) 1 6 := ⟨by decide +kernel, rfl⟩
theorem d_m_compared_6 : DD b_m_compared 6 (.iload_n 3) 1 7 := ⟨by decide +kernel, rfl⟩
theorem d_m_compared_7 : DB b_m_compared 7 (.if_icmp .ge 7) 7 10 14 := ⟨by decide +kernel, rfl, rfl⟩
theorem d_m_compared_10 : DD b_m_compared 10 (.iconst (-1)) 1 11 := ⟨by decide +kernel, rfl⟩
theorem d_m_compared_11 : DB b_m_compared 11 (.goto 4) 4 14 15 := ⟨by decide +kernel, rfl, rfl⟩
theorem d_m_compared_14 : DD b_m_compared 14 (.iconst 1) 1 15 := ⟨by decide +kernel, rfl⟩
theorem d_m_compared_15 : DD b_m_compared 15 .ireturn 1 16 := ⟨by decide +kernel, rfl⟩
theorem d_m_compared_16 : DD b_m_compared 16 (.iload_n 1) 1 17 := ⟨by decide +kernel, rfl⟩
theorem d_m_compared_17 : DD b_m_compared 17 (.iconst 1) 1 18 := ⟨by decide +kernel, rfl⟩
theorem d_m_compared_18 : DD b_m_compared 18 .isub 1 19 := ⟨by decide +kernel, rfl⟩
theorem d_m_compared_19 : DD b_m_compared 19 (.istore 4) 2 21 := ⟨by decide +kernel, rfl⟩
theorem d_m_compared_21 : DD b_m_compared 21 (.iload 4) 2 23 := ⟨by decide +kernel, rfl⟩
theorem d_m_compared_23 : DB b_m_compared 23 (.ifCond .lt 37) 37 26 60 := ⟨by decide +kernel, rfl, rfl⟩
theorem d_m_compared_26 : DD b_m_compared 26 (.aload_n 0) 1 27 := ⟨by decide +kernel, rfl⟩
theorem d_m_compared_27 : DD b_m_compared 27 (.iload 4) 2 29 := ⟨by decide +kernel, rfl⟩
theorem d_m_compared_29 : DD b_m_compared 29 .iaload 1 30 := ⟨by decide +kernel, rfl⟩
theorem d_m_compared_30 : DD b_m_compared 30 (.aload_n 2) 1 31 := ⟨by decide +kernel, rfl⟩
theorem d_m_compared_31 : DD b_m_compared 31 (.iload 4) 2 33 := ⟨by decide +kernel, rfl⟩
theorem d_m_compared_33 : DD b_m_compared 33 .iaload 1 34 := ⟨by decide +kernel, rfl⟩
theorem d_m_compared_34 : DB b_m_compared 34 (.if_icmp .eq 20) 20 37 54 := ⟨by decide +kernel, rfl, rfl⟩
theorem d_m_compared_37 : DD b_m_compared 37 (.aload_n 0) 1 38 := ⟨by decide +kernel, rfl⟩
theorem d_m_compared_38 : DD b_m_compared 38 (.iload 4) 2 40 := ⟨by decide +kernel, rfl⟩
theorem d_m_compared_40 : DD b_m_compared 40 .iaload 1 41 := ⟨by decide +kernel, rfl⟩
theorem d_m_compared_41 : DD b_m_compared 41 (.aload_n 2) 1 42 := ⟨by decide +kernel, rfl⟩
theorem d_m_compared_42 : DD b_m_compared 42 (.iload 4) 2 44 := ⟨by decide +kernel, rfl⟩
theorem d_m_compared_44 : DD b_m_compared 44 .iaload 1 45 := ⟨by decide +kernel, rfl⟩
theorem d_m_compared_45 : DB b_m_compared 45 (.if_icmp .ge 7) 7 48 52 := ⟨by decide +kernel, rfl, rfl⟩
theorem d_m_compared_48 : DD b_m_compared 48 (.iconst (-1)) 1 49 := ⟨by decide +kernel, rfl⟩
theorem d_m_compared_49 : DB b_m_compared 49 (.goto 4) 4 52 53 := ⟨by decide +kernel, rfl, rfl⟩
theorem d_m_compared_52 : DD b_m_compared 52 (.iconst 1) 1 53 := ⟨by decide +kernel, rfl⟩
theorem d_m_compared_53 : DD b_m_compared 53 .ireturn 1 54 := ⟨by decide +kernel, rfl⟩
theorem d_m_compared_54 : DD b_m_compared 54 (.iinc 4 (-1)) 3 57 := ⟨by decide +kernel, rfl⟩
theorem d_m_compared_57 : DB b_m_compared 57 (.goto (-36)) (-36) 60 21 := ⟨by decide +kernel, rfl, rfl⟩
theorem d_m_compared_60 : DD b_m_compared 60 (.iconst 0) 1 61 := ⟨by decide +kernel, rfl⟩
theorem d_m_compared_61 : DD b_m_compared 61 .ireturn 1 62 := ⟨by decide +kernel, rfl⟩
set_option maxRecDepth 20000 in
set_option maxHeartbeats 4000000 in
theorem c_m_compared (l : Launch) (G : ZG) {p0 p1 p2 p3 : Int} {σ : Mem} {K : Int → Prop} (h : wp_m_compared p0 p1 p2 p3 σ K) (h_p0 : isA p0) (h_p1 : okI p1) (h_p2 : isA p2) (h_p3 : okI p3) : Ct l G y_m_compared (.code y_m_compared b_m_compared 5 (some .int)) { frames := 0, cells := 0, slots := 0, locals := 0 } 0 0 1 [.ref (zA G p0), .int (iI p1), .ref (zA G p2), .int (iI p3)] σ (fun r σ1 => σ = σ1 ∧ K r) (fun _ _ => False) := by
  unfold wp_m_compared at h
  refine Ct.ofZ [(0, .ref (zA G p0)), (1, .int (iI p1)), (2, .ref (zA G p2)), (3, .int (iI p3))] "LimbDeskModel" (by decide) rfl (Nat.le_of_ble_eq_true rfl) rfl ?_
  intro E hR hlE C hr hX
  subst hlE
  clear hR
  obtain ⟨Q, hQ⟩ : ∃ Q, Q = MQX G (zb E) 1 (fun r σ1 => σ = σ1 ∧ K r) (fun _ _ => False) (zs E) 0 0 0 0 := ⟨_, rfl⟩
  show Z E G 5 0 0 (MQX G (zb E) 1 (fun r σ1 => σ = σ1 ∧ K r) (fun _ _ => False) (zs E) 0 0 0 0) σ 0 [(0, .ref (zA G p0)), (1, .int (iI p1)), (2, .ref (zA G p2)), (3, .int (iI p3))] []
  rw [← hQ]
  refine z_iload_n C 1 d_m_compared_0 rfl ?_
  refine z_iload_n C 3 d_m_compared_1 rfl ?_
  refine z_icmp_eq C d_m_compared_2 h_p1 h_p3 (fun hb1 => ?_) (fun hb1 => ?_)
  · have h := h.1 hb1
    refine z_iload_n C 1 d_m_compared_16 rfl ?_
    refine z_iconst C d_m_compared_17 ?_
    refine z_isub C d_m_compared_18 ?_
    refine z_namei (fun v4_2 e3 => ?_)
    have h := h v4_2 e3
    refine z_istore C [(4, .int (iI v4_2)), (0, .ref (zA G p0)), (1, .int (iI p1)), (2, .ref (zA G p2)), (3, .int (iI p3))] d_m_compared_19 (by decide) rfl ?_
    obtain ⟨ok5, h⟩ := h
    refine z_sub [(0, .ref (zA G p0)), (2, .ref (zA G p2)), (4, .int (iI v4_2))] [1, 3, 0] rfl ?_
    refine (Lq1.walk (P := fun v4_4 => okI v4_4 → Z E G 5 0 0 Q σ 21 [(0, .ref (zA G p0)), (2, .ref (zA G p2)), (4, .int (iI v4_4))] []) ?_ h) ok5
    intro v4_4 again7 Hagain7 h ok6
    refine z_iload C 2 d_m_compared_21 rfl ?_
    refine z_if_lt C d_m_compared_23 ok6 (fun hb8 => ?_) (fun hb8 => ?_)
    · have h := h.1 hb8
      refine z_iconst C d_m_compared_60 ?_
      subst hQ
      exact z_ireturn C d_m_compared_61.1 hr ⟨Nat.zero_le _, Nat.zero_le _⟩ (okI_lit rfl) ⟨rfl, h⟩
    · have h := h.2 hb8
      refine z_aload_n C 0 d_m_compared_26 rfl ?_
      refine z_iload C 2 d_m_compared_27 rfl ?_
      obtain ⟨hc9, h⟩ := h
      refine z_ialdN C (ln p0) d_m_compared_29 h_p0 rfl hc9 ?_
      refine z_aload_n C 1 d_m_compared_30 rfl ?_
      refine z_iload C 2 d_m_compared_31 rfl ?_
      obtain ⟨hc10, h⟩ := h
      refine z_ialdN C (ln p2) d_m_compared_33 h_p2 rfl hc10 ?_
      obtain ⟨ok11, h⟩ := h
      obtain ⟨ok12, h⟩ := h
      refine z_icmp_eq C d_m_compared_34 ok11 ok12 (fun hb13 => ?_) (fun hb13 => ?_)
      · have h := h.1 hb13
        refine z_iinc C 2 [(4, .int (iI (v4_4 + (-1)))), (0, .ref (zA G p0)), (2, .ref (zA G p2))] d_m_compared_54 rfl (by decide) rfl ?_
        refine z_goto C d_m_compared_57 ?_
        obtain ⟨ok14, h⟩ := h
        refine z_sub [(0, .ref (zA G p0)), (2, .ref (zA G p2)), (4, .int (iI (v4_4 + (-1))))] [1, 2, 0] rfl ?_
        exact Hagain7 _ h ok14
      · have h := h.2 hb13
        refine z_aload_n C 0 d_m_compared_37 rfl ?_
        refine z_iload C 2 d_m_compared_38 rfl ?_
        refine z_ialdN C (ln p0) d_m_compared_40 h_p0 rfl hc9 ?_
        refine z_aload_n C 1 d_m_compared_41 rfl ?_
        refine z_iload C 2 d_m_compared_42 rfl ?_
        refine z_ialdN C (ln p2) d_m_compared_44 h_p2 rfl hc10 ?_
        have hj : ∀ s16 : Int, s16 = (if (σ p2 v4_4) ≤ (σ p0 v4_4) then 1 else (-1)) → Z E G 5 0 0 Q σ 53 [(0, .ref (zA G p0)), (2, .ref (zA G p2)), (4, .int (iI v4_4))] [.int (iI s16)] := by
          intro s16 e17
          have h := h s16 e17
          have ok18 : okI s16 := by rw [e17]; split; exact (okI_lit rfl); exact (okI_lit rfl)
          subst hQ
          exact z_ireturn C d_m_compared_53.1 hr ⟨Nat.zero_le _, Nat.zero_le _⟩ ok18 ⟨rfl, h⟩
        clear h
        refine z_icmp_ge C d_m_compared_45 ok11 ok12 (fun hb15 => ?_) (fun hb15 => ?_)
        · refine z_iconst C d_m_compared_52 ?_
          exact hj _ (if_pos hb15).symm
        · refine z_iconst C d_m_compared_48 ?_
          refine z_goto C d_m_compared_49 ?_
          exact hj _ (if_neg (Int.not_le.mpr hb15)).symm
  · have h := h.2 hb1
    refine z_iload_n C 1 d_m_compared_5 rfl ?_
    refine z_iload_n C 3 d_m_compared_6 rfl ?_
    have hj : ∀ s20 : Int, s20 = (if p3 ≤ p1 then 1 else (-1)) → Z E G 5 0 0 Q σ 15 [(0, .ref (zA G p0)), (1, .int (iI p1)), (2, .ref (zA G p2)), (3, .int (iI p3))] [.int (iI s20)] := by
      intro s20 e21
      have h := h s20 e21
      have ok22 : okI s20 := by rw [e21]; split; exact (okI_lit rfl); exact (okI_lit rfl)
      subst hQ
      exact z_ireturn C d_m_compared_15.1 hr ⟨Nat.zero_le _, Nat.zero_le _⟩ ok22 ⟨rfl, h⟩
    clear h
    refine z_icmp_ge C d_m_compared_7 h_p1 h_p3 (fun hb19 => ?_) (fun hb19 => ?_)
    · refine z_iconst C d_m_compared_14 ?_
      exact hj _ (if_pos hb19).symm
    · refine z_iconst C d_m_compared_10 ?_
      refine z_goto C d_m_compared_11 ?_
      exact hj _ (if_neg (Int.not_le.mpr hb19)).symm
theorem d_m_trim_0 : DD b_m_trim 0 (.iload_n 1) 1 1 := ⟨by decide +kernel, rfl⟩
theorem d_m_trim_1 : DD b_m_trim 1 (.istore_n 2) 1 2 := ⟨by decide +kernel, rfl⟩
theorem d_m_trim_2 : DD b_m_trim 2 (.iload_n 2) 1 3 := ⟨by decide +kernel, rfl⟩
theorem d_m_trim_3 : DB b_m_trim 3 (.ifCond .le 17) 17 6 20 := ⟨by decide +kernel, rfl, rfl⟩
theorem d_m_trim_6 : DD b_m_trim 6 (.aload_n 0) 1 7 := ⟨by decide +kernel, rfl⟩
theorem d_m_trim_7 : DD b_m_trim 7 (.iload_n 2) 1 8 := ⟨by decide +kernel, rfl⟩
theorem d_m_trim_8 : DD b_m_trim 8 (.iconst 1) 1 9 := ⟨by decide +kernel, rfl⟩
theorem d_m_trim_9 : DD b_m_trim 9 .isub 1 10 := ⟨by decide +kernel, rfl⟩
theorem d_m_trim_10 : DD b_m_trim 10 .iaload 1 11 := ⟨by decide +kernel, rfl⟩
theorem d_m_trim_11 : DB b_m_trim 11 (.ifCond .ne 9) 9 14 20 := ⟨by decide +kernel, rfl, rfl⟩
theorem d_m_trim_14 : DD b_m_trim 14 (.iinc 2 (-1)) 3 17 := ⟨by decide +kernel, rfl⟩
theorem d_m_trim_17 : DB b_m_trim 17 (.goto (-15)) (-15) 20 2 := ⟨by decide +kernel, rfl, rfl⟩
theorem d_m_trim_20 : DD b_m_trim 20 (.iload_n 2) 1 21 := ⟨by decide +kernel, rfl⟩
theorem d_m_trim_21 : DD b_m_trim 21 .ireturn 1 22 := ⟨by decide +kernel, rfl⟩
set_option maxRecDepth 20000 in
set_option maxHeartbeats 4000000 in
theorem c_m_trim (l : Launch) (G : ZG) {p0 p1 : Int} {σ : Mem} {K : Int → Prop} (h : wp_m_trim p0 p1 σ K) (h_p0 : isA p0) (h_p1 : okI p1) : Ct l G y_m_trim (.code y_m_trim b_m_trim 3 (some .int)) { frames := 0, cells := 0, slots := 0, locals := 0 } 0 0 1 [.ref (zA G p0), .int (iI p1)] σ (fun r σ1 => σ = σ1 ∧ K r) (fun _ _ => False) := by
  unfold wp_m_trim at h
  refine Ct.ofZ [(0, .ref (zA G p0)), (1, .int (iI p1))] "LimbDeskModel" (by decide) rfl (Nat.le_of_ble_eq_true rfl) rfl ?_
  intro E hR hlE C hr hX
  subst hlE
  clear hR
  obtain ⟨Q, hQ⟩ : ∃ Q, Q = MQX G (zb E) 1 (fun r σ1 => σ = σ1 ∧ K r) (fun _ _ => False) (zs E) 0 0 0 0 := ⟨_, rfl⟩
  show Z E G 3 0 0 (MQX G (zb E) 1 (fun r σ1 => σ = σ1 ∧ K r) (fun _ _ => False) (zs E) 0 0 0 0) σ 0 [(0, .ref (zA G p0)), (1, .int (iI p1))] []
  rw [← hQ]
  refine z_iload_n C 1 d_m_trim_0 rfl ?_
  refine z_istore_n C [(2, .int (iI p1)), (0, .ref (zA G p0)), (1, .int (iI p1))] d_m_trim_1 (by decide) rfl ?_
  refine z_sub [(0, .ref (zA G p0)), (2, .int (iI p1))] [1, 0] rfl ?_
  refine (Lq1.walk (P := fun v2_1 => okI v2_1 → Z E G 3 0 0 Q σ 2 [(0, .ref (zA G p0)), (2, .int (iI v2_1))] []) ?_ h) h_p1
  intro v2_1 again3 Hagain3 h ok2
  refine z_iload_n C 1 d_m_trim_2 rfl ?_
  refine z_if_le C d_m_trim_3 ok2 (fun hb4 => ?_) (fun hb4 => ?_)
  · have h := h.1 hb4
    refine z_iload_n C 1 d_m_trim_20 rfl ?_
    subst hQ
    exact z_ireturn C d_m_trim_21.1 hr ⟨Nat.zero_le _, Nat.zero_le _⟩ ok2 ⟨rfl, h⟩
  · have h := h.2 hb4
    refine z_aload_n C 0 d_m_trim_6 rfl ?_
    refine z_iload_n C 1 d_m_trim_7 rfl ?_
    refine z_iconst C d_m_trim_8 ?_
    refine z_isub C d_m_trim_9 ?_
    obtain ⟨hc5, h⟩ := h
    refine z_ialdN C (ln p0) d_m_trim_10 h_p0 rfl hc5 ?_
    obtain ⟨ok6, h⟩ := h
    refine z_if_ne C d_m_trim_11 ok6 (fun hb7 => ?_) (fun hb7 => ?_)
    · have h := h.1 hb7
      refine z_iload_n C 1 d_m_trim_20 rfl ?_
      subst hQ
      exact z_ireturn C d_m_trim_21.1 hr ⟨Nat.zero_le _, Nat.zero_le _⟩ ok2 ⟨rfl, h⟩
    · have h := h.2 hb7
      refine z_iinc C 1 [(2, .int (iI (v2_1 + (-1)))), (0, .ref (zA G p0))] d_m_trim_14 rfl (by decide) rfl ?_
      refine z_goto C d_m_trim_17 ?_
      obtain ⟨ok8, h⟩ := h
      refine z_sub [(0, .ref (zA G p0)), (2, .int (iI (v2_1 + (-1))))] [1, 0] rfl ?_
      exact Hagain3 _ h ok8
theorem d_m_plus_0 : DD b_m_plus 0 (.iconst 0) 1 1 := ⟨by decide +kernel, rfl⟩
theorem d_m_plus_1 : DD b_m_plus 1 (.istore 5) 2 3 := ⟨by decide +kernel, rfl⟩
theorem d_m_plus_3 : DD b_m_plus 3 (.iload_n 1) 1 4 := ⟨by decide +kernel, rfl⟩
theorem d_m_plus_4 : DD b_m_plus 4 (.iload_n 3) 1 5 := ⟨by decide +kernel, rfl⟩
theorem d_m_plus_5 : DB b_m_plus 5 (.if_icmp .le 7) 7 8 12 := ⟨by decide +kernel, rfl, rfl⟩
theorem d_m_plus_8 : DD b_m_plus 8 (.iload_n 1) 1 9 := ⟨by decide +kernel, rfl⟩
theorem d_m_plus_9 : DB b_m_plus 9 (.goto 4) 4 12 13 := ⟨by decide +kernel, rfl, rfl⟩
theorem d_m_plus_12 : DD b_m_plus 12 (.iload_n 3) 1 13 := ⟨by decide +kernel, rfl⟩
theorem d_m_plus_13 : DD b_m_plus 13 (.istore 6) 2 15 := ⟨by decide +kernel, rfl⟩
theorem d_m_plus_15 : DD b_m_plus 15 (.iconst 0) 1 16 := ⟨by decide +kernel, rfl⟩
theorem d_m_plus_16 : DD b_m_plus 16 (.istore 7) 2 18 := ⟨by decide +kernel, rfl⟩
theorem d_m_plus_18 : DD b_m_plus 18 (.iload 7) 2 20 := ⟨by decide +kernel, rfl⟩
theorem d_m_plus_20 : DD b_m_plus 20 (.iload 6) 2 22 := ⟨by decide +kernel, rfl⟩
theorem d_m_plus_22 : DB b_m_plus 22 (.if_icmp .ge 60) 60 25 82 := ⟨by decide +kernel, rfl, rfl⟩
theorem d_m_plus_25 : DD b_m_plus 25 (.iload 5) 2 27 := ⟨by decide +kernel, rfl⟩
theorem d_m_plus_27 : DD b_m_plus 27 (.iload 7) 2 29 := ⟨by decide +kernel, rfl⟩
theorem d_m_plus_29 : DD b_m_plus 29 (.iload_n 1) 1 30 := ⟨by decide +kernel, rfl⟩
theorem d_m_plus_30 : DB b_m_plus 30 (.if_icmp .ge 10) 10 33 40 := ⟨by decide +kernel, rfl, rfl⟩
theorem d_m_plus_33 : DD b_m_plus 33 (.aload_n 0) 1 34 := ⟨by decide +kernel, rfl⟩
theorem d_m_plus_34 : DD b_m_plus 34 (.iload 7) 2 36 := ⟨by decide +kernel, rfl⟩
theorem d_m_plus_36 : DD b_m_plus 36 .iaload 1 37 := ⟨by decide +kernel, rfl⟩
theorem d_m_plus_37 : DB b_m_plus 37 (.goto 4) 4 40 41 := ⟨by decide +kernel, rfl, rfl⟩
theorem d_m_plus_40 : DD b_m_plus 40 (.iconst 0) 1 41 := ⟨by decide +kernel, rfl⟩
theorem d_m_plus_41 : DD b_m_plus 41 (.iload 7) 2 43 := ⟨by decide +kernel, rfl⟩
theorem d_m_plus_43 : DD b_m_plus 43 (.iload_n 3) 1 44 := ⟨by decide +kernel, rfl⟩
theorem d_m_plus_44 : DB b_m_plus 44 (.if_icmp .ge 10) 10 47 54 := ⟨by decide +kernel, rfl, rfl⟩
theorem d_m_plus_47 : DD b_m_plus 47 (.aload_n 2) 1 48 := ⟨by decide +kernel, rfl⟩
theorem d_m_plus_48 : DD b_m_plus 48 (.iload 7) 2 50 := ⟨by decide +kernel, rfl⟩
theorem d_m_plus_50 : DD b_m_plus 50 .iaload 1 51 := ⟨by decide +kernel, rfl⟩
theorem d_m_plus_51 : DB b_m_plus 51 (.goto 4) 4 54 55 := ⟨by decide +kernel, rfl, rfl⟩
theorem d_m_plus_54 : DD b_m_plus 54 (.iconst 0) 1 55 := ⟨by decide +kernel, rfl⟩
theorem d_m_plus_55 : DD b_m_plus 55 .iadd 1 56 := ⟨by decide +kernel, rfl⟩
theorem d_m_plus_56 : DD b_m_plus 56 .iadd 1 57 := ⟨by decide +kernel, rfl⟩
theorem d_m_plus_57 : DD b_m_plus 57 (.istore 5) 2 59 := ⟨by decide +kernel, rfl⟩
theorem d_m_plus_59 : DD b_m_plus 59 (.aload 4) 2 61 := ⟨by decide +kernel, rfl⟩
theorem d_m_plus_61 : DD b_m_plus 61 (.iload 7) 2 63 := ⟨by decide +kernel, rfl⟩
theorem d_m_plus_63 : DD b_m_plus 63 (.iload 5) 2 65 := ⟨by decide +kernel, rfl⟩
theorem d_m_plus_65 : DD b_m_plus 65 (.ldc 53) 2 67 := ⟨by decide +kernel, rfl⟩
theorem d_m_plus_67 : DD b_m_plus 67 .iand 1 68 := ⟨by decide +kernel, rfl⟩
theorem d_m_plus_68 : DD b_m_plus 68 .iastore 1 69 := ⟨by decide +kernel, rfl⟩
theorem d_m_plus_69 : DD b_m_plus 69 (.iload 5) 2 71 := ⟨by decide +kernel, rfl⟩
theorem d_m_plus_71 : DD b_m_plus 71 (.bipush 16) 2 73 := ⟨by decide +kernel, rfl⟩
theorem d_m_plus_73 : DD b_m_plus 73 .ishr 1 74 := ⟨by decide +kernel, rfl⟩
theorem d_m_plus_74 : DD b_m_plus 74 (.istore 5) 2 76 := ⟨by decide +kernel, rfl⟩
theorem d_m_plus_76 : DD b_m_plus 76 (.iinc 7 1) 3 79 := ⟨by decide +kernel, rfl⟩
theorem d_m_plus_79 : DB b_m_plus 79 (.goto (-61)) (-61) 82 18 := ⟨by decide +kernel, rfl, rfl⟩
theorem d_m_plus_82 : DD b_m_plus 82 (.aload 4) 2 84 := ⟨by decide +kernel, rfl⟩
theorem d_m_plus_84 : DD b_m_plus 84 (.iload 6) 2 86 := ⟨by decide +kernel, rfl⟩
theorem d_m_plus_86 : DD b_m_plus 86 (.iload 5) 2 88 := ⟨by decide +kernel, rfl⟩
theorem d_m_plus_88 : DD b_m_plus 88 .iastore 1 89 := ⟨by decide +kernel, rfl⟩
theorem d_m_plus_89 : DD b_m_plus 89 (.aload 4) 2 91 := ⟨by decide +kernel, rfl⟩
theorem d_m_plus_91 : DD b_m_plus 91 (.iload 6) 2 93 := ⟨by decide +kernel, rfl⟩
theorem d_m_plus_93 : DD b_m_plus 93 (.iconst 1) 1 94 := ⟨by decide +kernel, rfl⟩
theorem d_m_plus_94 : DD b_m_plus 94 .iadd 1 95 := ⟨by decide +kernel, rfl⟩
theorem d_m_plus_95 : DD b_m_plus 95 (.invokestatic 54) 3 98 := ⟨by decide +kernel, rfl⟩
theorem d_m_plus_98 : DD b_m_plus 98 .ireturn 1 99 := ⟨by decide +kernel, rfl⟩
set_option maxRecDepth 20000 in
set_option maxHeartbeats 4000000 in
theorem c_m_plus (l : Launch) (G : ZG) {p0 p1 p2 p3 p4 : Int} {σ : Mem} {K : Int → Mem → Prop} (h : wp_m_plus p0 p1 p2 p3 p4 σ K) (h_p0 : isA p0) (h_p1 : okI p1) (h_p2 : isA p2) (h_p3 : okI p3) (h_p4 : isA p4) : Ct l G y_m_plus (.code y_m_plus b_m_plus 8 (some .int)) { frames := 1, cells := 0, slots := 0, locals := 22 } 0 0 1 [.ref (zA G p0), .int (iI p1), .ref (zA G p2), .int (iI p3), .ref (zA G p4)] σ K (fun _ _ => False) := by
  unfold wp_m_plus at h
  refine Ct.ofZ [(0, .ref (zA G p0)), (1, .int (iI p1)), (2, .ref (zA G p2)), (3, .int (iI p3)), (4, .ref (zA G p4))] "LimbDeskModel" (by decide) rfl (Nat.le_of_ble_eq_true rfl) rfl ?_
  intro E hR hlE C hr hX
  subst hlE
  have hroom_m_trim : 0 + 1 ≤ (zR E).frames ∧ 8 + (3 + 11) + 0 ≤ (zR E).locals ∧ 0 + 0 ≤ (zR E).cells ∧ 0 + 0 ≤ (zR E).slots := by rw [hR]; decide
  clear hR
  obtain ⟨Q, hQ⟩ : ∃ Q, Q = MQX G (zb E) 1 K (fun _ _ => False) (zs E) 0 0 0 0 := ⟨_, rfl⟩
  show Z E G 8 0 0 (MQX G (zb E) 1 K (fun _ _ => False) (zs E) 0 0 0 0) σ 0 [(0, .ref (zA G p0)), (1, .int (iI p1)), (2, .ref (zA G p2)), (3, .int (iI p3)), (4, .ref (zA G p4))] []
  rw [← hQ]
  refine z_iconst C d_m_plus_0 ?_
  refine z_istore C [(5, .int (iI 0)), (0, .ref (zA G p0)), (1, .int (iI p1)), (2, .ref (zA G p2)), (3, .int (iI p3)), (4, .ref (zA G p4))] d_m_plus_1 (by decide) rfl ?_
  refine z_iload_n C 2 d_m_plus_3 rfl ?_
  refine z_iload_n C 4 d_m_plus_4 rfl ?_
  have hj : ∀ s2 : Int, s2 = (if p1 ≤ p3 then p3 else p1) → Z E G 8 0 0 Q σ 13 [(5, .int (iI 0)), (0, .ref (zA G p0)), (1, .int (iI p1)), (2, .ref (zA G p2)), (3, .int (iI p3)), (4, .ref (zA G p4))] [.int (iI s2)] := by
    intro s2 e3
    have h := h s2 e3
    have ok4 : okI s2 := by rw [e3]; split; exact h_p3; exact h_p1
    refine z_istore C [(6, .int (iI s2)), (5, .int (iI 0)), (0, .ref (zA G p0)), (1, .int (iI p1)), (2, .ref (zA G p2)), (3, .int (iI p3)), (4, .ref (zA G p4))] d_m_plus_13 (by decide) rfl ?_
    refine z_iconst C d_m_plus_15 ?_
    refine z_istore C [(7, .int (iI 0)), (6, .int (iI s2)), (5, .int (iI 0)), (0, .ref (zA G p0)), (1, .int (iI p1)), (2, .ref (zA G p2)), (3, .int (iI p3)), (4, .ref (zA G p4))] d_m_plus_16 (by decide) rfl ?_
    refine z_sub [(0, .ref (zA G p0)), (1, .int (iI p1)), (2, .ref (zA G p2)), (3, .int (iI p3)), (4, .ref (zA G p4)), (5, .int (iI 0)), (6, .int (iI s2)), (7, .int (iI 0))] [3, 4, 5, 6, 7, 2, 1, 0] rfl ?_
    refine (Lo2.walk (P := fun v5_5 v7_6 σ7 => okI v5_5 → okI v7_6 → Z E G 8 0 0 Q σ7 18 [(0, .ref (zA G p0)), (1, .int (iI p1)), (2, .ref (zA G p2)), (3, .int (iI p3)), (4, .ref (zA G p4)), (5, .int (iI v5_5)), (6, .int (iI s2)), (7, .int (iI v7_6))] []) ?_ h) (okI_lit rfl) (okI_lit rfl)
    intro v5_5 v7_6 σ7 again10 Hagain10 h ok8 ok9
    refine z_iload C 7 d_m_plus_18 rfl ?_
    refine z_iload C 6 d_m_plus_20 rfl ?_
    refine z_icmp_ge C d_m_plus_22 ok9 ok4 (fun hb11 => ?_) (fun hb11 => ?_)
    · have h := h.1 hb11
      refine z_aload C 4 d_m_plus_82 rfl ?_
      refine z_iload C 6 d_m_plus_84 rfl ?_
      refine z_iload C 5 d_m_plus_86 rfl ?_
      obtain ⟨hc12, h⟩ := h
      refine z_iastN C (ln p4) d_m_plus_88 h_p4 rfl hc12 ?_
      refine z_aload C 4 d_m_plus_89 rfl ?_
      refine z_iload C 6 d_m_plus_91 rfl ?_
      refine z_iconst C d_m_plus_93 ?_
      refine z_iadd C d_m_plus_94 ?_
      obtain ⟨ok13, h⟩ := h
      refine z_callS C [.ref (zA G p4), .int (iI (s2 + 1))] [] 2 d_m_plus_95 (c_m_trim (zl E) G h h_p4 ok13) k_545 k_543 k_544 k_3 (by decide)  (by decide +kernel) rfl rfl (Nat.le_of_ble_eq_true rfl) hroom_m_trim (fun r14 _s16 ok15 hq => ?_) (fun _ _ hx => hx.elim)
      obtain ⟨hs_, hk_⟩ := hq
      subst hs_
      have h := hk_
      subst hQ
      exact z_ireturn C d_m_plus_98.1 hr ⟨Nat.zero_le _, Nat.zero_le _⟩ ok15 h
    · have h := h.2 hb11
      refine z_iload C 5 d_m_plus_25 rfl ?_
      refine z_iload C 7 d_m_plus_27 rfl ?_
      refine z_iload_n C 1 d_m_plus_29 rfl ?_
      obtain ⟨ha21, h⟩ := h
      have hj : ∀ s19 : Int, s19 = (if p1 ≤ v7_6 then 0 else (σ7 p0 v7_6)) → Z E G 8 0 0 Q σ7 41 [(0, .ref (zA G p0)), (1, .int (iI p1)), (2, .ref (zA G p2)), (3, .int (iI p3)), (4, .ref (zA G p4)), (5, .int (iI v5_5)), (6, .int (iI s2)), (7, .int (iI v7_6))] [.int (iI s19), .int (iI v5_5)] := by
        intro s19 e20
        have h := h s19 e20
        refine z_iload C 7 d_m_plus_41 rfl ?_
        refine z_iload_n C 3 d_m_plus_43 rfl ?_
        obtain ⟨ha26, h⟩ := h
        have hj : ∀ s24 : Int, s24 = (if p3 ≤ v7_6 then 0 else (σ7 p2 v7_6)) → Z E G 8 0 0 Q σ7 55 [(0, .ref (zA G p0)), (1, .int (iI p1)), (2, .ref (zA G p2)), (3, .int (iI p3)), (4, .ref (zA G p4)), (5, .int (iI v5_5)), (6, .int (iI s2)), (7, .int (iI v7_6))] [.int (iI s24), .int (iI s19), .int (iI v5_5)] := by
          intro s24 e25
          have h := h s24 e25
          refine z_iadd C d_m_plus_55 ?_
          refine z_iadd C d_m_plus_56 ?_
          refine z_namei (fun v5_27 e28 => ?_)
          have h := h v5_27 e28
          refine z_istore C [(5, .int (iI v5_27)), (0, .ref (zA G p0)), (1, .int (iI p1)), (2, .ref (zA G p2)), (3, .int (iI p3)), (4, .ref (zA G p4)), (6, .int (iI s2)), (7, .int (iI v7_6))] d_m_plus_57 (by decide) rfl ?_
          refine z_aload C 5 d_m_plus_59 rfl ?_
          refine z_iload C 7 d_m_plus_61 rfl ?_
          refine z_iload C 0 d_m_plus_63 rfl ?_
          refine z_ldc C d_m_plus_65 k_579 (n := 65535) (by decide) ?_
          refine z_imask C 16 65536 d_m_plus_67 (by decide) (by decide) (by decide) ?_
          obtain ⟨hc29, h⟩ := h
          refine z_iastN C (ln p4) d_m_plus_68 h_p4 rfl hc29 ?_
          refine z_iload C 0 d_m_plus_69 rfl ?_
          refine z_bipush C d_m_plus_71 (by decide) ?_
          obtain ⟨ok30, h⟩ := h
          refine z_ishrK C 65536 d_m_plus_73 (by decide) ok30 ⟨by decide, by decide⟩ ?_
          refine z_namei (fun v5_31 e32 => ?_)
          have h := h v5_31 e32
          refine z_istore C [(5, .int (iI v5_31)), (0, .ref (zA G p0)), (1, .int (iI p1)), (2, .ref (zA G p2)), (3, .int (iI p3)), (4, .ref (zA G p4)), (6, .int (iI s2)), (7, .int (iI v7_6))] d_m_plus_74 (by decide) rfl ?_
          refine z_iinc C 7 [(7, .int (iI (v7_6 + 1))), (5, .int (iI v5_31)), (0, .ref (zA G p0)), (1, .int (iI p1)), (2, .ref (zA G p2)), (3, .int (iI p3)), (4, .ref (zA G p4)), (6, .int (iI s2))] d_m_plus_76 rfl (by decide) rfl ?_
          refine z_goto C d_m_plus_79 ?_
          obtain ⟨ok33, h⟩ := h
          obtain ⟨ok34, h⟩ := h
          refine z_sub [(0, .ref (zA G p0)), (1, .int (iI p1)), (2, .ref (zA G p2)), (3, .int (iI p3)), (4, .ref (zA G p4)), (5, .int (iI v5_31)), (6, .int (iI s2)), (7, .int (iI (v7_6 + 1)))] [2, 3, 4, 5, 6, 1, 7, 0] rfl ?_
          exact Hagain10 _ _ _ h ok33 ok34
        clear h
        refine z_icmp_ge C d_m_plus_44 ok9 h_p3 (fun hb22 => ?_) (fun hb22 => ?_)
        · refine z_iconst C d_m_plus_54 ?_
          exact hj _ (if_pos hb22).symm
        · have h := ha26 hb22
          refine z_aload_n C 2 d_m_plus_47 rfl ?_
          refine z_iload C 7 d_m_plus_48 rfl ?_
          obtain ⟨hc23, h⟩ := h
          refine z_ialdN C (ln p2) d_m_plus_50 h_p2 rfl hc23 ?_
          refine z_goto C d_m_plus_51 ?_
          exact hj _ (if_neg (Int.not_le.mpr hb22)).symm
      clear h
      refine z_icmp_ge C d_m_plus_30 ok9 h_p1 (fun hb17 => ?_) (fun hb17 => ?_)
      · refine z_iconst C d_m_plus_40 ?_
        exact hj _ (if_pos hb17).symm
      · have h := ha21 hb17
        refine z_aload_n C 0 d_m_plus_33 rfl ?_
        refine z_iload C 7 d_m_plus_34 rfl ?_
        obtain ⟨hc18, h⟩ := h
        refine z_ialdN C (ln p0) d_m_plus_36 h_p0 rfl hc18 ?_
        refine z_goto C d_m_plus_37 ?_
        exact hj _ (if_neg (Int.not_le.mpr hb17)).symm
  clear h
  refine z_icmp_le C d_m_plus_5 h_p1 h_p3 (fun hb1 => ?_) (fun hb1 => ?_)
  · refine z_iload_n C 4 d_m_plus_12 rfl ?_
    exact hj _ (if_pos hb1).symm
  · refine z_iload_n C 2 d_m_plus_8 rfl ?_
    refine z_goto C d_m_plus_9 ?_
    exact hj _ (if_neg (Int.not_le.mpr hb1)).symm
theorem d_m_less_0 : DD b_m_less 0 (.iconst 0) 1 1 := ⟨by decide +kernel, rfl⟩
theorem d_m_less_1 : DD b_m_less 1 (.istore 5) 2 3 := ⟨by decide +kernel, rfl⟩
theorem d_m_less_3 : DD b_m_less 3 (.iconst 0) 1 4 := ⟨by decide +kernel, rfl⟩
theorem d_m_less_4 : DD b_m_less 4 (.istore 6) 2 6 := ⟨by decide +kernel, rfl⟩
theorem d_m_less_6 : DD b_m_less 6 (.iload 6) 2 8 := ⟨by decide +kernel, rfl⟩
theorem d_m_less_8 : DD b_m_less 8 (.iload_n 1) 1 9 := ⟨by decide +kernel, rfl⟩
theorem d_m_less_9 : DB b_m_less 9 (.if_icmp .ge 50) 50 12 59 := ⟨by decide +kernel, rfl, rfl⟩
theorem d_m_less_12 : DD b_m_less 12 (.iload 5) 2 14 := ⟨by decide +kernel, rfl⟩
theorem d_m_less_14 : DD b_m_less 14 (.aload_n 0) 1 15 := ⟨by decide +kernel, rfl⟩
theorem d_m_less_15 : DD b_m_less 15 (.iload 6) 2 17 := ⟨by decide +kernel, rfl⟩
theorem d_m_less_17 : DD b_m_less 17 .iaload 1 18 := ⟨by decide +kernel, rfl⟩
theorem d_m_less_18 : DD b_m_less 18 (.iload 6) 2 20 := ⟨by decide +kernel, rfl⟩
theorem d_m_less_20 : DD b_m_less 20 (.iload_n 3) 1 21 := ⟨by decide +kernel, rfl⟩
theorem d_m_less_21 : DB b_m_less 21 (.if_icmp .ge 10) 10 24 31 := ⟨by decide +kernel, rfl, rfl⟩
theorem d_m_less_24 : DD b_m_less 24 (.aload_n 2) 1 25 := ⟨by decide +kernel, rfl⟩
theorem d_m_less_25 : DD b_m_less 25 (.iload 6) 2 27 := ⟨by decide +kernel, rfl⟩
theorem d_m_less_27 : DD b_m_less 27 .iaload 1 28 := ⟨by decide +kernel, rfl⟩
theorem d_m_less_28 : DB b_m_less 28 (.goto 4) 4 31 32 := ⟨by decide +kernel, rfl, rfl⟩
theorem d_m_less_31 : DD b_m_less 31 (.iconst 0) 1 32 := ⟨by decide +kernel, rfl⟩
theorem d_m_less_32 : DD b_m_less 32 .isub 1 33 := ⟨by decide +kernel, rfl⟩
theorem d_m_less_33 : DD b_m_less 33 .iadd 1 34 := ⟨by decide +kernel, rfl⟩
theorem d_m_less_34 : DD b_m_less 34 (.istore 5) 2 36 := ⟨by decide +kernel, rfl⟩
theorem d_m_less_36 : DD b_m_less 36 (.aload 4) 2 38 := ⟨by decide +kernel, rfl⟩
theorem d_m_less_38 : DD b_m_less 38 (.iload 6) 2 40 := ⟨by decide +kernel, rfl⟩
theorem d_m_less_40 : DD b_m_less 40 (.iload 5) 2 42 := ⟨by decide +kernel, rfl⟩
theorem d_m_less_42 : DD b_m_less 42 (.ldc 53) 2 44 := ⟨by decide +kernel, rfl⟩
theorem d_m_less_44 : DD b_m_less 44 .iand 1 45 := ⟨by decide +kernel, rfl⟩
theorem d_m_less_45 : DD b_m_less 45 .iastore 1 46 := ⟨by decide +kernel, rfl⟩
theorem d_m_less_46 : DD b_m_less 46 (.iload 5) 2 48 := ⟨by decide +kernel, rfl⟩
theorem d_m_less_48 : DD b_m_less 48 (.bipush 16) 2 50 := ⟨by decide +kernel, rfl⟩
theorem d_m_less_50 : DD b_m_less 50 .ishr 1 51 := ⟨by decide +kernel, rfl⟩
theorem d_m_less_51 : DD b_m_less 51 (.istore 5) 2 53 := ⟨by decide +kernel, rfl⟩
theorem d_m_less_53 : DD b_m_less 53 (.iinc 6 1) 3 56 := ⟨by decide +kernel, rfl⟩
theorem d_m_less_56 : DB b_m_less 56 (.goto (-50)) (-50) 59 6 := ⟨by decide +kernel, rfl, rfl⟩
theorem d_m_less_59 : DD b_m_less 59 (.aload 4) 2 61 := ⟨by decide +kernel, rfl⟩
theorem d_m_less_61 : DD b_m_less 61 (.iload_n 1) 1 62 := ⟨by decide +kernel, rfl⟩
theorem d_m_less_62 : DD b_m_less 62 (.invokestatic 54) 3 65 := ⟨by decide +kernel, rfl⟩
theorem d_m_less_65 : DD b_m_less 65 .ireturn 1 66 := ⟨by decide +kernel, rfl⟩
set_option maxRecDepth 20000 in
set_option maxHeartbeats 4000000 in
theorem c_m_less (l : Launch) (G : ZG) {p0 p1 p2 p3 p4 : Int} {σ : Mem} {K : Int → Mem → Prop} (h : wp_m_less p0 p1 p2 p3 p4 σ K) (h_p0 : isA p0) (h_p1 : okI p1) (h_p2 : isA p2) (h_p3 : okI p3) (h_p4 : isA p4) : Ct l G y_m_less (.code y_m_less b_m_less 7 (some .int)) { frames := 1, cells := 0, slots := 0, locals := 22 } 0 0 1 [.ref (zA G p0), .int (iI p1), .ref (zA G p2), .int (iI p3), .ref (zA G p4)] σ K (fun _ _ => False) := by
  unfold wp_m_less at h
  refine Ct.ofZ [(0, .ref (zA G p0)), (1, .int (iI p1)), (2, .ref (zA G p2)), (3, .int (iI p3)), (4, .ref (zA G p4))] "LimbDeskModel" (by decide) rfl (Nat.le_of_ble_eq_true rfl) rfl ?_
  intro E hR hlE C hr hX
  subst hlE
  have hroom_m_trim : 0 + 1 ≤ (zR E).frames ∧ 8 + (3 + 11) + 0 ≤ (zR E).locals ∧ 0 + 0 ≤ (zR E).cells ∧ 0 + 0 ≤ (zR E).slots := by rw [hR]; decide
  clear hR
  obtain ⟨Q, hQ⟩ : ∃ Q, Q = MQX G (zb E) 1 K (fun _ _ => False) (zs E) 0 0 0 0 := ⟨_, rfl⟩
  show Z E G 7 0 0 (MQX G (zb E) 1 K (fun _ _ => False) (zs E) 0 0 0 0) σ 0 [(0, .ref (zA G p0)), (1, .int (iI p1)), (2, .ref (zA G p2)), (3, .int (iI p3)), (4, .ref (zA G p4))] []
  rw [← hQ]
  refine z_iconst C d_m_less_0 ?_
  refine z_istore C [(5, .int (iI 0)), (0, .ref (zA G p0)), (1, .int (iI p1)), (2, .ref (zA G p2)), (3, .int (iI p3)), (4, .ref (zA G p4))] d_m_less_1 (by decide) rfl ?_
  refine z_iconst C d_m_less_3 ?_
  refine z_istore C [(6, .int (iI 0)), (5, .int (iI 0)), (0, .ref (zA G p0)), (1, .int (iI p1)), (2, .ref (zA G p2)), (3, .int (iI p3)), (4, .ref (zA G p4))] d_m_less_4 (by decide) rfl ?_
  refine z_sub [(0, .ref (zA G p0)), (1, .int (iI p1)), (2, .ref (zA G p2)), (3, .int (iI p3)), (4, .ref (zA G p4)), (5, .int (iI 0)), (6, .int (iI 0))] [2, 3, 4, 5, 6, 1, 0] rfl ?_
  refine (Lo2.walk (P := fun v5_1 v6_2 σ3 => okI v5_1 → okI v6_2 → Z E G 7 0 0 Q σ3 6 [(0, .ref (zA G p0)), (1, .int (iI p1)), (2, .ref (zA G p2)), (3, .int (iI p3)), (4, .ref (zA G p4)), (5, .int (iI v5_1)), (6, .int (iI v6_2))] []) ?_ h) (okI_lit rfl) (okI_lit rfl)
  intro v5_1 v6_2 σ3 again6 Hagain6 h ok4 ok5
  refine z_iload C 6 d_m_less_6 rfl ?_
  refine z_iload_n C 1 d_m_less_8 rfl ?_
  refine z_icmp_ge C d_m_less_9 ok5 h_p1 (fun hb7 => ?_) (fun hb7 => ?_)
  · have h := h.1 hb7
    refine z_aload C 4 d_m_less_59 rfl ?_
    refine z_iload_n C 1 d_m_less_61 rfl ?_
    refine z_callS C [.ref (zA G p4), .int (iI p1)] [] 2 d_m_less_62 (c_m_trim (zl E) G h h_p4 h_p1) k_545 k_543 k_544 k_3 (by decide)  (by decide +kernel) rfl rfl (Nat.le_of_ble_eq_true rfl) hroom_m_trim (fun r8 _s10 ok9 hq => ?_) (fun _ _ hx => hx.elim)
    obtain ⟨hs_, hk_⟩ := hq
    subst hs_
    have h := hk_
    subst hQ
    exact z_ireturn C d_m_less_65.1 hr ⟨Nat.zero_le _, Nat.zero_le _⟩ ok9 h
  · have h := h.2 hb7
    refine z_iload C 5 d_m_less_12 rfl ?_
    refine z_aload_n C 0 d_m_less_14 rfl ?_
    refine z_iload C 6 d_m_less_15 rfl ?_
    obtain ⟨hc11, h⟩ := h
    refine z_ialdN C (ln p0) d_m_less_17 h_p0 rfl hc11 ?_
    refine z_iload C 6 d_m_less_18 rfl ?_
    refine z_iload_n C 3 d_m_less_20 rfl ?_
    obtain ⟨ha16, h⟩ := h
    have hj : ∀ s14 : Int, s14 = (if p3 ≤ v6_2 then 0 else (σ3 p2 v6_2)) → Z E G 7 0 0 Q σ3 32 [(0, .ref (zA G p0)), (1, .int (iI p1)), (2, .ref (zA G p2)), (3, .int (iI p3)), (4, .ref (zA G p4)), (5, .int (iI v5_1)), (6, .int (iI v6_2))] [.int (iI s14), .int (iI (σ3 p0 v6_2)), .int (iI v5_1)] := by
      intro s14 e15
      have h := h s14 e15
      refine z_isub C d_m_less_32 ?_
      refine z_iadd C d_m_less_33 ?_
      refine z_namei (fun v5_17 e18 => ?_)
      have h := h v5_17 e18
      refine z_istore C [(5, .int (iI v5_17)), (0, .ref (zA G p0)), (1, .int (iI p1)), (2, .ref (zA G p2)), (3, .int (iI p3)), (4, .ref (zA G p4)), (6, .int (iI v6_2))] d_m_less_34 (by decide) rfl ?_
      refine z_aload C 5 d_m_less_36 rfl ?_
      refine z_iload C 6 d_m_less_38 rfl ?_
      refine z_iload C 0 d_m_less_40 rfl ?_
      refine z_ldc C d_m_less_42 k_579 (n := 65535) (by decide) ?_
      refine z_imask C 16 65536 d_m_less_44 (by decide) (by decide) (by decide) ?_
      obtain ⟨hc19, h⟩ := h
      refine z_iastN C (ln p4) d_m_less_45 h_p4 rfl hc19 ?_
      refine z_iload C 0 d_m_less_46 rfl ?_
      refine z_bipush C d_m_less_48 (by decide) ?_
      obtain ⟨ok20, h⟩ := h
      refine z_ishrK C 65536 d_m_less_50 (by decide) ok20 ⟨by decide, by decide⟩ ?_
      refine z_namei (fun v5_21 e22 => ?_)
      have h := h v5_21 e22
      refine z_istore C [(5, .int (iI v5_21)), (0, .ref (zA G p0)), (1, .int (iI p1)), (2, .ref (zA G p2)), (3, .int (iI p3)), (4, .ref (zA G p4)), (6, .int (iI v6_2))] d_m_less_51 (by decide) rfl ?_
      refine z_iinc C 6 [(6, .int (iI (v6_2 + 1))), (5, .int (iI v5_21)), (0, .ref (zA G p0)), (1, .int (iI p1)), (2, .ref (zA G p2)), (3, .int (iI p3)), (4, .ref (zA G p4))] d_m_less_53 rfl (by decide) rfl ?_
      refine z_goto C d_m_less_56 ?_
      obtain ⟨ok23, h⟩ := h
      obtain ⟨ok24, h⟩ := h
      refine z_sub [(0, .ref (zA G p0)), (1, .int (iI p1)), (2, .ref (zA G p2)), (3, .int (iI p3)), (4, .ref (zA G p4)), (5, .int (iI v5_21)), (6, .int (iI (v6_2 + 1)))] [2, 3, 4, 5, 6, 1, 0] rfl ?_
      exact Hagain6 _ _ _ h ok23 ok24
    clear h
    refine z_icmp_ge C d_m_less_21 ok5 h_p3 (fun hb12 => ?_) (fun hb12 => ?_)
    · refine z_iconst C d_m_less_31 ?_
      exact hj _ (if_pos hb12).symm
    · have h := ha16 hb12
      refine z_aload_n C 2 d_m_less_24 rfl ?_
      refine z_iload C 6 d_m_less_25 rfl ?_
      obtain ⟨hc13, h⟩ := h
      refine z_ialdN C (ln p2) d_m_less_27 h_p2 rfl hc13 ?_
      refine z_goto C d_m_less_28 ?_
      exact hj _ (if_neg (Int.not_le.mpr hb12)).symm
theorem d_m_times_0 : DD b_m_times 0 (.iconst 0) 1 1 := ⟨by decide +kernel, rfl⟩
theorem d_m_times_1 : DD b_m_times 1 (.istore 5) 2 3 := ⟨by decide +kernel, rfl⟩
theorem d_m_times_3 : DD b_m_times 3 (.iload 5) 2 5 := ⟨by decide +kernel, rfl⟩
theorem d_m_times_5 : DD b_m_times 5 (.iload_n 1) 1 6 := ⟨by decide +kernel, rfl⟩
theorem d_m_times_6 : DD b_m_times 6 (.iload_n 3) 1 7 := ⟨by decide +kernel, rfl⟩
theorem d_m_times_7 : DD b_m_times 7 .iadd 1 8 := ⟨by decide +kernel, rfl⟩
theorem d_m_times_8 : DB b_m_times 8 (.if_icmp .ge 15) 15 11 23 := ⟨by decide +kernel, rfl, rfl⟩
theorem d_m_times_11 : DD b_m_times 11 (.aload 4) 2 13 := ⟨by decide +kernel, rfl⟩
theorem d_m_times_13 : DD b_m_times 13 (.iload 5) 2 15 := ⟨by decide +kernel, rfl⟩
theorem d_m_times_15 : DD b_m_times 15 (.iconst 0) 1 16 := ⟨by decide +kernel, rfl⟩
theorem d_m_times_16 : DD b_m_times 16 .iastore 1 17 := ⟨by decide +kernel, rfl⟩
theorem d_m_times_17 : DD b_m_times 17 (.iinc 5 1) 3 20 := ⟨by decide +kernel, rfl⟩
theorem d_m_times_20 : DB b_m_times 20 (.goto (-17)) (-17) 23 3 := ⟨by decide +kernel, rfl, rfl⟩
theorem d_m_times_23 : DD b_m_times 23 (.iconst 0) 1 24 := ⟨by decide +kernel, rfl⟩
theorem d_m_times_24 : DD b_m_times 24 (.istore 5) 2 26 := ⟨by decide +kernel, rfl⟩
theorem d_m_times_26 : DD b_m_times 26 (.iload 5) 2 28 := ⟨by decide +kernel, rfl⟩
theorem d_m_times_28 : DD b_m_times 28 (.iload_n 1) 1 29 := ⟨by decide +kernel, rfl⟩
theorem d_m_times_29 : DB b_m_times 29 (.if_icmp .ge 85) 85 32 114 := ⟨by decide +kernel, rfl, rfl⟩
theorem d_m_times_32 : DD b_m_times 32 (.lconst 0) 1 33 := ⟨by decide +kernel, rfl⟩
theorem d_m_times_33 : DD b_m_times 33 (.lstore 6) 2 35 := ⟨by decide +kernel, rfl⟩
theorem d_m_times_35 : DD b_m_times 35 (.iconst 0) 1 36 := ⟨by decide +kernel, rfl⟩
theorem d_m_times_36 : DD b_m_times 36 (.istore 8) 2 38 := ⟨by decide +kernel, rfl⟩
theorem d_m_times_38 : DD b_m_times 38 (.iload 8) 2 40 := ⟨by decide +kernel, rfl⟩
theorem d_m_times_40 : DD b_m_times 40 (.iload_n 3) 1 41 := ⟨by decide +kernel, rfl⟩
theorem d_m_times_41 : DB b_m_times 41 (.if_icmp .ge 57) 57 44 98 := ⟨by decide +kernel, rfl, rfl⟩
theorem d_m_times_44 : DD b_m_times 44 (.lload 6) 2 46 := ⟨by decide +kernel, rfl⟩
theorem d_m_times_46 : DD b_m_times 46 (.aload_n 0) 1 47 := ⟨by decide +kernel, rfl⟩
theorem d_m_times_47 : DD b_m_times 47 (.iload 5) 2 49 := ⟨by decide +kernel, rfl⟩
theorem d_m_times_49 : DD b_m_times 49 .iaload 1 50 := ⟨by decide +kernel, rfl⟩
theorem d_m_times_50 : DD b_m_times 50 .i2l 1 51 := ⟨by decide +kernel, rfl⟩
theorem d_m_times_51 : DD b_m_times 51 (.aload_n 2) 1 52 := ⟨by decide +kernel, rfl⟩
theorem d_m_times_52 : DD b_m_times 52 (.iload 8) 2 54 := ⟨by decide +kernel, rfl⟩
theorem d_m_times_54 : DD b_m_times 54 .iaload 1 55 := ⟨by decide +kernel, rfl⟩
theorem d_m_times_55 : DD b_m_times 55 .i2l 1 56 := ⟨by decide +kernel, rfl⟩
theorem d_m_times_56 : DD b_m_times 56 .lmul 1 57 := ⟨by decide +kernel, rfl⟩
theorem d_m_times_57 : DD b_m_times 57 (.aload 4) 2 59 := ⟨by decide +kernel, rfl⟩
theorem d_m_times_59 : DD b_m_times 59 (.iload 5) 2 61 := ⟨by decide +kernel, rfl⟩
theorem d_m_times_61 : DD b_m_times 61 (.iload 8) 2 63 := ⟨by decide +kernel, rfl⟩
theorem d_m_times_63 : DD b_m_times 63 .iadd 1 64 := ⟨by decide +kernel, rfl⟩
theorem d_m_times_64 : DD b_m_times 64 .iaload 1 65 := ⟨by decide +kernel, rfl⟩
theorem d_m_times_65 : DD b_m_times 65 .i2l 1 66 := ⟨by decide +kernel, rfl⟩
theorem d_m_times_66 : DD b_m_times 66 .ladd 1 67 := ⟨by decide +kernel, rfl⟩
theorem d_m_times_67 : DD b_m_times 67 .ladd 1 68 := ⟨by decide +kernel, rfl⟩
theorem d_m_times_68 : DD b_m_times 68 (.lstore 6) 2 70 := ⟨by decide +kernel, rfl⟩
theorem d_m_times_70 : DD b_m_times 70 (.aload 4) 2 72 := ⟨by decide +kernel, rfl⟩
theorem d_m_times_72 : DD b_m_times 72 (.iload 5) 2 74 := ⟨by decide +kernel, rfl⟩
theorem d_m_times_74 : DD b_m_times 74 (.iload 8) 2 76 := ⟨by decide +kernel, rfl⟩
theorem d_m_times_76 : DD b_m_times 76 .iadd 1 77 := ⟨by decide +kernel, rfl⟩
theorem d_m_times_77 : DD b_m_times 77 (.lload 6) 2 79 := ⟨by decide +kernel, rfl⟩
theorem d_m_times_79 : DD b_m_times 79 (.ldc2_w 58) 3 82 := ⟨by decide +kernel, rfl⟩
theorem d_m_times_82 : DD b_m_times 82 .land 1 83 := ⟨by decide +kernel, rfl⟩
theorem d_m_times_83 : DD b_m_times 83 .l2i 1 84 := ⟨by decide +kernel, rfl⟩
theorem d_m_times_84 : DD b_m_times 84 .iastore 1 85 := ⟨by decide +kernel, rfl⟩
theorem d_m_times_85 : DD b_m_times 85 (.lload 6) 2 87 := ⟨by decide +kernel, rfl⟩
theorem d_m_times_87 : DD b_m_times 87 (.bipush 16) 2 89 := ⟨by decide +kernel, rfl⟩
theorem d_m_times_89 : DD b_m_times 89 .lushr 1 90 := ⟨by decide +kernel, rfl⟩
theorem d_m_times_90 : DD b_m_times 90 (.lstore 6) 2 92 := ⟨by decide +kernel, rfl⟩
theorem d_m_times_92 : DD b_m_times 92 (.iinc 8 1) 3 95 := ⟨by decide +kernel, rfl⟩
theorem d_m_times_95 : DB b_m_times 95 (.goto (-57)) (-57) 98 38 := ⟨by decide +kernel, rfl, rfl⟩
theorem d_m_times_98 : DD b_m_times 98 (.aload 4) 2 100 := ⟨by decide +kernel, rfl⟩
theorem d_m_times_100 : DD b_m_times 100 (.iload 5) 2 102 := ⟨by decide +kernel, rfl⟩
theorem d_m_times_102 : DD b_m_times 102 (.iload_n 3) 1 103 := ⟨by decide +kernel, rfl⟩
theorem d_m_times_103 : DD b_m_times 103 .iadd 1 104 := ⟨by decide +kernel, rfl⟩
theorem d_m_times_104 : DD b_m_times 104 (.lload 6) 2 106 := ⟨by decide +kernel, rfl⟩
theorem d_m_times_106 : DD b_m_times 106 .l2i 1 107 := ⟨by decide +kernel, rfl⟩
theorem d_m_times_107 : DD b_m_times 107 .iastore 1 108 := ⟨by decide +kernel, rfl⟩
theorem d_m_times_108 : DD b_m_times 108 (.iinc 5 1) 3 111 := ⟨by decide +kernel, rfl⟩
theorem d_m_times_111 : DB b_m_times 111 (.goto (-85)) (-85) 114 26 := ⟨by decide +kernel, rfl, rfl⟩
theorem d_m_times_114 : DD b_m_times 114 (.aload 4) 2 116 := ⟨by decide +kernel, rfl⟩
theorem d_m_times_116 : DD b_m_times 116 (.iload_n 1) 1 117 := ⟨by decide +kernel, rfl⟩
theorem d_m_times_117 : DD b_m_times 117 (.iload_n 3) 1 118 := ⟨by decide +kernel, rfl⟩
theorem d_m_times_118 : DD b_m_times 118 .iadd 1 119 := ⟨by decide +kernel, rfl⟩
theorem d_m_times_119 : DD b_m_times 119 (.invokestatic 54) 3 122 := ⟨by decide +kernel, rfl⟩
theorem d_m_times_122 : DD b_m_times 122 .ireturn 1 123 := ⟨by decide +kernel, rfl⟩
set_option maxRecDepth 20000 in
set_option maxHeartbeats 4000000 in
theorem c_m_times (l : Launch) (G : ZG) {p0 p1 p2 p3 p4 : Int} {σ : Mem} {K : Int → Mem → Prop} (h : wp_m_times p0 p1 p2 p3 p4 σ K) (h_p0 : isA p0) (h_p1 : okI p1) (h_p2 : isA p2) (h_p3 : okI p3) (h_p4 : isA p4) : Ct l G y_m_times (.code y_m_times b_m_times 9 (some .int)) { frames := 1, cells := 0, slots := 0, locals := 22 } 0 0 1 [.ref (zA G p0), .int (iI p1), .ref (zA G p2), .int (iI p3), .ref (zA G p4)] σ K (fun _ _ => False) := by
  unfold wp_m_times at h
  refine Ct.ofZ [(0, .ref (zA G p0)), (1, .int (iI p1)), (2, .ref (zA G p2)), (3, .int (iI p3)), (4, .ref (zA G p4))] "LimbDeskModel" (by decide) rfl (Nat.le_of_ble_eq_true rfl) rfl ?_
  intro E hR hlE C hr hX
  subst hlE
  have hroom_m_trim : 0 + 1 ≤ (zR E).frames ∧ 8 + (3 + 11) + 0 ≤ (zR E).locals ∧ 0 + 0 ≤ (zR E).cells ∧ 0 + 0 ≤ (zR E).slots := by rw [hR]; decide
  clear hR
  obtain ⟨Q, hQ⟩ : ∃ Q, Q = MQX G (zb E) 1 K (fun _ _ => False) (zs E) 0 0 0 0 := ⟨_, rfl⟩
  show Z E G 9 0 0 (MQX G (zb E) 1 K (fun _ _ => False) (zs E) 0 0 0 0) σ 0 [(0, .ref (zA G p0)), (1, .int (iI p1)), (2, .ref (zA G p2)), (3, .int (iI p3)), (4, .ref (zA G p4))] []
  rw [← hQ]
  refine z_iconst C d_m_times_0 ?_
  refine z_istore C [(5, .int (iI 0)), (0, .ref (zA G p0)), (1, .int (iI p1)), (2, .ref (zA G p2)), (3, .int (iI p3)), (4, .ref (zA G p4))] d_m_times_1 (by decide) rfl ?_
  refine z_sub [(0, .ref (zA G p0)), (1, .int (iI p1)), (2, .ref (zA G p2)), (3, .int (iI p3)), (4, .ref (zA G p4)), (5, .int (iI 0))] [1, 2, 3, 4, 5, 0] rfl ?_
  refine (Lo1.walk (P := fun v5_1 σ2 => okI v5_1 → Z E G 9 0 0 Q σ2 3 [(0, .ref (zA G p0)), (1, .int (iI p1)), (2, .ref (zA G p2)), (3, .int (iI p3)), (4, .ref (zA G p4)), (5, .int (iI v5_1))] []) ?_ h) (okI_lit rfl)
  intro v5_1 σ2 again4 Hagain4 h ok3
  refine z_iload C 5 d_m_times_3 rfl ?_
  refine z_iload_n C 1 d_m_times_5 rfl ?_
  refine z_iload_n C 3 d_m_times_6 rfl ?_
  refine z_iadd C d_m_times_7 ?_
  obtain ⟨ok5, h⟩ := h
  refine z_icmp_ge C d_m_times_8 ok3 ok5 (fun hb6 => ?_) (fun hb6 => ?_)
  · have h := h.1 hb6
    refine z_iconst C d_m_times_23 ?_
    refine z_istore C [(5, .int (iI 0)), (0, .ref (zA G p0)), (1, .int (iI p1)), (2, .ref (zA G p2)), (3, .int (iI p3)), (4, .ref (zA G p4))] d_m_times_24 (by decide) rfl ?_
    refine z_sub [(0, .ref (zA G p0)), (1, .int (iI p1)), (2, .ref (zA G p2)), (3, .int (iI p3)), (4, .ref (zA G p4)), (5, .int (iI 0))] [1, 2, 3, 4, 5, 0] rfl ?_
    refine (Lo1.walk (P := fun v5_7 σ8 => okI v5_7 → Z E G 9 0 0 Q σ8 26 [(0, .ref (zA G p0)), (1, .int (iI p1)), (2, .ref (zA G p2)), (3, .int (iI p3)), (4, .ref (zA G p4)), (5, .int (iI v5_7))] []) ?_ h) (okI_lit rfl)
    intro v5_7 σ8 again10 Hagain10 h ok9
    refine z_iload C 5 d_m_times_26 rfl ?_
    refine z_iload_n C 1 d_m_times_28 rfl ?_
    refine z_icmp_ge C d_m_times_29 ok9 h_p1 (fun hb11 => ?_) (fun hb11 => ?_)
    · have h := h.1 hb11
      refine z_aload C 4 d_m_times_114 rfl ?_
      refine z_iload_n C 1 d_m_times_116 rfl ?_
      refine z_iload_n C 3 d_m_times_117 rfl ?_
      refine z_iadd C d_m_times_118 ?_
      refine z_callS C [.ref (zA G p4), .int (iI (p1 + p3))] [] 2 d_m_times_119 (c_m_trim (zl E) G h h_p4 ok5) k_545 k_543 k_544 k_3 (by decide)  (by decide +kernel) rfl rfl (Nat.le_of_ble_eq_true rfl) hroom_m_trim (fun r12 _s14 ok13 hq => ?_) (fun _ _ hx => hx.elim)
      obtain ⟨hs_, hk_⟩ := hq
      subst hs_
      have h := hk_
      subst hQ
      exact z_ireturn C d_m_times_122.1 hr ⟨Nat.zero_le _, Nat.zero_le _⟩ ok13 h
    · have h := h.2 hb11
      refine z_lconst C d_m_times_32 ?_
      refine z_lstore C [(6, .long (lL 0)), (0, .ref (zA G p0)), (1, .int (iI p1)), (2, .ref (zA G p2)), (3, .int (iI p3)), (4, .ref (zA G p4)), (5, .int (iI v5_7))] d_m_times_33 (by decide) rfl ?_
      refine z_iconst C d_m_times_35 ?_
      refine z_istore C [(8, .int (iI 0)), (6, .long (lL 0)), (0, .ref (zA G p0)), (1, .int (iI p1)), (2, .ref (zA G p2)), (3, .int (iI p3)), (4, .ref (zA G p4)), (5, .int (iI v5_7))] d_m_times_36 (by decide) rfl ?_
      refine z_sub [(0, .ref (zA G p0)), (1, .int (iI p1)), (2, .ref (zA G p2)), (3, .int (iI p3)), (4, .ref (zA G p4)), (5, .int (iI v5_7)), (6, .long (lL 0)), (8, .int (iI 0))] [2, 3, 4, 5, 6, 7, 1, 0] rfl ?_
      refine (Lo2.walk (P := fun v6_15 v8_16 σ17 => okI v8_16 → Z E G 9 0 0 Q σ17 38 [(0, .ref (zA G p0)), (1, .int (iI p1)), (2, .ref (zA G p2)), (3, .int (iI p3)), (4, .ref (zA G p4)), (5, .int (iI v5_7)), (6, .long (lL v6_15)), (8, .int (iI v8_16))] []) ?_ h) (okI_lit rfl)
      intro v6_15 v8_16 σ17 again19 Hagain19 h ok18
      refine z_iload C 7 d_m_times_38 rfl ?_
      refine z_iload_n C 3 d_m_times_40 rfl ?_
      refine z_icmp_ge C d_m_times_41 ok18 h_p3 (fun hb20 => ?_) (fun hb20 => ?_)
      · have h := h.1 hb20
        refine z_aload C 4 d_m_times_98 rfl ?_
        refine z_iload C 5 d_m_times_100 rfl ?_
        refine z_iload_n C 3 d_m_times_102 rfl ?_
        refine z_iadd C d_m_times_103 ?_
        refine z_lload C 6 d_m_times_104 rfl ?_
        refine z_l2i C d_m_times_106 ?_
        obtain ⟨hc21, h⟩ := h
        refine z_iastN C (ln p4) d_m_times_107 h_p4 rfl hc21 ?_
        refine z_iinc C 5 [(5, .int (iI (v5_7 + 1))), (0, .ref (zA G p0)), (1, .int (iI p1)), (2, .ref (zA G p2)), (3, .int (iI p3)), (4, .ref (zA G p4)), (6, .long (lL v6_15)), (8, .int (iI v8_16))] d_m_times_108 rfl (by decide) rfl ?_
        refine z_goto C d_m_times_111 ?_
        obtain ⟨ok22, h⟩ := h
        refine z_sub [(0, .ref (zA G p0)), (1, .int (iI p1)), (2, .ref (zA G p2)), (3, .int (iI p3)), (4, .ref (zA G p4)), (5, .int (iI (v5_7 + 1)))] [1, 2, 3, 4, 5, 0] rfl ?_
        exact Hagain10 _ _ h ok22
      · have h := h.2 hb20
        refine z_lload C 6 d_m_times_44 rfl ?_
        refine z_aload_n C 0 d_m_times_46 rfl ?_
        refine z_iload C 5 d_m_times_47 rfl ?_
        obtain ⟨hc23, h⟩ := h
        refine z_ialdN C (ln p0) d_m_times_49 h_p0 rfl hc23 ?_
        obtain ⟨ok24, h⟩ := h
        refine z_i2l C d_m_times_50 ok24 ?_
        refine z_aload_n C 2 d_m_times_51 rfl ?_
        refine z_iload C 7 d_m_times_52 rfl ?_
        obtain ⟨hc25, h⟩ := h
        refine z_ialdN C (ln p2) d_m_times_54 h_p2 rfl hc25 ?_
        obtain ⟨ok26, h⟩ := h
        refine z_i2l C d_m_times_55 ok26 ?_
        refine z_lmul C d_m_times_56 ?_
        refine z_aload C 4 d_m_times_57 rfl ?_
        refine z_iload C 5 d_m_times_59 rfl ?_
        refine z_iload C 7 d_m_times_61 rfl ?_
        refine z_iadd C d_m_times_63 ?_
        obtain ⟨hc27, h⟩ := h
        refine z_ialdN C (ln p4) d_m_times_64 h_p4 rfl hc27 ?_
        obtain ⟨ok28, h⟩ := h
        refine z_i2l C d_m_times_65 ok28 ?_
        refine z_ladd C d_m_times_66 ?_
        refine z_ladd C d_m_times_67 ?_
        refine z_namel (fun v6_29 e30 => ?_)
        have h := h v6_29 e30
        refine z_lstore C [(6, .long (lL v6_29)), (0, .ref (zA G p0)), (1, .int (iI p1)), (2, .ref (zA G p2)), (3, .int (iI p3)), (4, .ref (zA G p4)), (5, .int (iI v5_7)), (8, .int (iI v8_16))] d_m_times_68 (by decide) rfl ?_
        refine z_aload C 5 d_m_times_70 rfl ?_
        refine z_iload C 6 d_m_times_72 rfl ?_
        refine z_iload C 7 d_m_times_74 rfl ?_
        refine z_iadd C d_m_times_76 ?_
        refine z_lload C 0 d_m_times_77 rfl ?_
        refine z_ldc2 C d_m_times_79 k_538 (n := 65535) (by decide) ?_
        refine z_lmask C 16 65536 d_m_times_82 (by decide) (by decide) (by decide) ?_
        refine z_l2i C d_m_times_83 ?_
        refine z_iastN C (ln p4) d_m_times_84 h_p4 rfl hc27 ?_
        refine z_lload C 0 d_m_times_85 rfl ?_
        refine z_bipush C d_m_times_87 (by decide) ?_
        refine z_lushrK C 65536 d_m_times_89 (by decide) ⟨by decide, by decide⟩ ?_
        refine z_namel (fun v6_31 e32 => ?_)
        have h := h v6_31 e32
        refine z_lstore C [(6, .long (lL v6_31)), (0, .ref (zA G p0)), (1, .int (iI p1)), (2, .ref (zA G p2)), (3, .int (iI p3)), (4, .ref (zA G p4)), (5, .int (iI v5_7)), (8, .int (iI v8_16))] d_m_times_90 (by decide) rfl ?_
        refine z_iinc C 7 [(8, .int (iI (v8_16 + 1))), (6, .long (lL v6_31)), (0, .ref (zA G p0)), (1, .int (iI p1)), (2, .ref (zA G p2)), (3, .int (iI p3)), (4, .ref (zA G p4)), (5, .int (iI v5_7))] d_m_times_92 rfl (by decide) rfl ?_
        refine z_goto C d_m_times_95 ?_
        obtain ⟨ok33, h⟩ := h
        refine z_sub [(0, .ref (zA G p0)), (1, .int (iI p1)), (2, .ref (zA G p2)), (3, .int (iI p3)), (4, .ref (zA G p4)), (5, .int (iI v5_7)), (6, .long (lL v6_31)), (8, .int (iI (v8_16 + 1)))] [2, 3, 4, 5, 6, 7, 1, 0] rfl ?_
        exact Hagain19 _ _ _ h ok33
  · have h := h.2 hb6
    refine z_aload C 4 d_m_times_11 rfl ?_
    refine z_iload C 5 d_m_times_13 rfl ?_
    refine z_iconst C d_m_times_15 ?_
    obtain ⟨hc34, h⟩ := h
    refine z_iastN C (ln p4) d_m_times_16 h_p4 rfl hc34 ?_
    refine z_iinc C 5 [(5, .int (iI (v5_1 + 1))), (0, .ref (zA G p0)), (1, .int (iI p1)), (2, .ref (zA G p2)), (3, .int (iI p3)), (4, .ref (zA G p4))] d_m_times_17 rfl (by decide) rfl ?_
    refine z_goto C d_m_times_20 ?_
    obtain ⟨ok35, h⟩ := h
    refine z_sub [(0, .ref (zA G p0)), (1, .int (iI p1)), (2, .ref (zA G p2)), (3, .int (iI p3)), (4, .ref (zA G p4)), (5, .int (iI (v5_1 + 1)))] [1, 2, 3, 4, 5, 0] rfl ?_
    exact Hagain4 _ _ h ok35
theorem d_m_divided_0 : DD b_m_divided 0 (.aload_n 1) 1 1 := ⟨by decide +kernel, rfl⟩
theorem d_m_divided_1 : DD b_m_divided 1 (.iload_n 2) 1 2 := ⟨by decide +kernel, rfl⟩
theorem d_m_divided_2 : DD b_m_divided 2 (.aload_n 3) 1 3 := ⟨by decide +kernel, rfl⟩
theorem d_m_divided_3 : DD b_m_divided 3 (.iload 4) 2 5 := ⟨by decide +kernel, rfl⟩
theorem d_m_divided_5 : DD b_m_divided 5 (.invokestatic 60) 3 8 := ⟨by decide +kernel, rfl⟩
theorem d_m_divided_8 : DB b_m_divided 8 (.ifCond .ge 10) 10 11 18 := ⟨by decide +kernel, rfl, rfl⟩
theorem d_m_divided_11 : DD b_m_divided 11 (.aload_n 0) 1 12 := ⟨by decide +kernel, rfl⟩
theorem d_m_divided_12 : DD b_m_divided 12 (.iconst 0) 1 13 := ⟨by decide +kernel, rfl⟩
theorem d_m_divided_13 : DD b_m_divided 13 (.putfield 64) 3 16 := ⟨by decide +kernel, rfl⟩
theorem d_m_divided_16 : DD b_m_divided 16 (.iload_n 2) 1 17 := ⟨by decide +kernel, rfl⟩
theorem d_m_divided_17 : DD b_m_divided 17 .ireturn 1 18 := ⟨by decide +kernel, rfl⟩
theorem d_m_divided_18 : DD b_m_divided 18 (.iload 4) 2 20 := ⟨by decide +kernel, rfl⟩
theorem d_m_divided_20 : DD b_m_divided 20 (.iconst 1) 1 21 := ⟨by decide +kernel, rfl⟩
theorem d_m_divided_21 : DB b_m_divided 21 (.if_icmp .ne 84) 84 24 105 := ⟨by decide +kernel, rfl, rfl⟩
theorem d_m_divided_24 : DD b_m_divided 24 (.lconst 0) 1 25 := ⟨by decide +kernel, rfl⟩
theorem d_m_divided_25 : DD b_m_divided 25 (.lstore 6) 2 27 := ⟨by decide +kernel, rfl⟩
theorem d_m_divided_27 : DD b_m_divided 27 (.iload_n 2) 1 28 := ⟨by decide +kernel, rfl⟩
theorem d_m_divided_28 : DD b_m_divided 28 (.iconst 1) 1 29 := ⟨by decide +kernel, rfl⟩
theorem d_m_divided_29 : DD b_m_divided 29 .isub 1 30 := ⟨by decide +kernel, rfl⟩
theorem d_m_divided_30 : DD b_m_divided 30 (.istore 8) 2 32 := ⟨by decide +kernel, rfl⟩
theorem d_m_divided_32 : DD b_m_divided 32 (.iload 8) 2 34 := ⟨by decide +kernel, rfl⟩
theorem d_m_divided_34 : DB b_m_divided 34 (.ifCond .lt 49) 49 37 83 := ⟨by decide +kernel, rfl, rfl⟩
theorem d_m_divided_37 : DD b_m_divided 37 (.lload 6) 2 39 := ⟨by decide +kernel, rfl⟩
theorem d_m_divided_39 : DD b_m_divided 39 (.bipush 16) 2 41 := ⟨by decide +kernel, rfl⟩
theorem d_m_divided_41 : DD b_m_divided 41 .lshl 1 42 := ⟨by decide +kernel, rfl⟩
theorem d_m_divided_42 : DD b_m_divided 42 (.aload_n 1) 1 43 := ⟨by decide +kernel, rfl⟩
theorem d_m_divided_43 : DD b_m_divided 43 (.iload 8) 2 45 := ⟨by decide +kernel, rfl⟩
theorem d_m_divided_45 : DD b_m_divided 45 .iaload 1 46 := ⟨by decide +kernel, rfl⟩
theorem d_m_divided_46 : DD b_m_divided 46 .i2l 1 47 := ⟨by decide +kernel, rfl⟩
theorem d_m_divided_47 : DD b_m_divided 47 .lor 1 48 := ⟨by decide +kernel, rfl⟩
theorem d_m_divided_48 : DD b_m_divided 48 (.lstore 6) 2 50 := ⟨by decide +kernel, rfl⟩
theorem d_m_divided_50 : DD b_m_divided 50 (.aload 5) 2 52 := ⟨by decide +kernel, rfl⟩
theorem d_m_divided_52 : DD b_m_divided 52 (.iload 8) 2 54 := ⟨by decide +kernel, rfl⟩
theorem d_m_divided_54 : DD b_m_divided 54 (.lload 6) 2 56 := ⟨by decide +kernel, rfl⟩
theorem d_m_divided_56 : DD b_m_divided 56 (.aload_n 3) 1 57 := ⟨by decide +kernel, rfl⟩
theorem d_m_divided_57 : DD b_m_divided 57 (.iconst 0) 1 58 := ⟨by decide +kernel, rfl⟩
theorem d_m_divided_58 : DD b_m_divided 58 .iaload 1 59 := ⟨by decide +kernel, rfl⟩
theorem d_m_divided_59 : DD b_m_divided 59 .i2l 1 60 := ⟨by decide +kernel, rfl⟩
theorem d_m_divided_60 : DD b_m_divided 60 .ldiv 1 61 := ⟨by decide +kernel, rfl⟩
theorem d_m_divided_61 : DD b_m_divided 61 .l2i 1 62 := ⟨by decide +kernel, rfl⟩
theorem d_m_divided_62 : DD b_m_divided 62 .iastore 1 63 := ⟨by decide +kernel, rfl⟩
theorem d_m_divided_63 : DD b_m_divided 63 (.lload 6) 2 65 := ⟨by decide +kernel, rfl⟩
theorem d_m_divided_65 : DD b_m_divided 65 (.aload_n 3) 1 66 := ⟨by decide +kernel, rfl⟩
theorem d_m_divided_66 : DD b_m_divided 66 (.iconst 0) 1 67 := ⟨by decide +kernel, rfl⟩
theorem d_m_divided_67 : DD b_m_divided 67 .iaload 1 68 := ⟨by decide +kernel, rfl⟩
theorem d_m_divided_68 : DD b_m_divided 68 .i2l 1 69 := ⟨by decide +kernel, rfl⟩
theorem d_m_divided_69 : DD b_m_divided 69 .lrem 1 70 := ⟨by decide +kernel, rfl⟩
theorem d_m_divided_70 : DD b_m_divided 70 (.lstore 6) 2 72 := ⟨by decide +kernel, rfl⟩
theorem d_m_divided_72 : DD b_m_divided 72 (.aload_n 1) 1 73 := ⟨by decide +kernel, rfl⟩
theorem d_m_divided_73 : DD b_m_divided 73 (.iload 8) 2 75 := ⟨by decide +kernel, rfl⟩
theorem d_m_divided_75 : DD b_m_divided 75 (.iconst 0) 1 76 := ⟨by decide +kernel, rfl⟩
theorem d_m_divided_76 : DD b_m_divided 76 .iastore 1 77 := ⟨by decide +kernel, rfl⟩
theorem d_m_divided_77 : DD b_m_divided 77 (.iinc 8 (-1)) 3 80 := ⟨by decide +kernel, rfl⟩
theorem d_m_divided_80 : DB b_m_divided 80 (.goto (-48)) (-48) 83 32 := ⟨by decide +kernel, rfl, rfl⟩
theorem d_m_divided_83 : DD b_m_divided 83 (.aload_n 0) 1 84 := ⟨by decide +kernel, rfl⟩
theorem d_m_divided_84 : DD b_m_divided 84 (.aload 5) 2 86 := ⟨by decide +kernel, rfl⟩
theorem d_m_divided_86 : DD b_m_divided 86 (.iload_n 2) 1 87 := ⟨by decide +kernel, rfl⟩
theorem d_m_divided_87 : DD b_m_divided 87 (.invokestatic 54) 3 90 := ⟨by decide +kernel, rfl⟩
theorem d_m_divided_90 : DD b_m_divided 90 (.putfield 64) 3 93 := ⟨by decide +kernel, rfl⟩
theorem d_m_divided_93 : DD b_m_divided 93 (.aload_n 1) 1 94 := ⟨by decide +kernel, rfl⟩
theorem d_m_divided_94 : DD b_m_divided 94 (.iconst 0) 1 95 := ⟨by decide +kernel, rfl⟩
theorem d_m_divided_95 : DD b_m_divided 95 (.lload 6) 2 97 := ⟨by decide +kernel, rfl⟩
theorem d_m_divided_97 : DD b_m_divided 97 .l2i 1 98 := ⟨by decide +kernel, rfl⟩
theorem d_m_divided_98 : DD b_m_divided 98 .iastore 1 99 := ⟨by decide +kernel, rfl⟩
theorem d_m_divided_99 : DD b_m_divided 99 (.aload_n 1) 1 100 := ⟨by decide +kernel, rfl⟩
theorem d_m_divided_100 : DD b_m_divided 100 (.iconst 1) 1 101 := ⟨by decide +kernel, rfl⟩
theorem d_m_divided_101 : DD b_m_divided 101 (.invokestatic 54) 3 104 := ⟨by decide +kernel, rfl⟩
theorem d_m_divided_104 : DD b_m_divided 104 .ireturn 1 105 := ⟨by decide +kernel, rfl⟩
theorem d_m_divided_105 : DD b_m_divided 105 (.iconst 0) 1 106 := ⟨by decide +kernel, rfl⟩
theorem d_m_divided_106 : DD b_m_divided 106 (.istore 6) 2 108 := ⟨by decide +kernel, rfl⟩
theorem d_m_divided_108 : DD b_m_divided 108 (.aload_n 3) 1 109 := ⟨by decide +kernel, rfl⟩
theorem d_m_divided_109 : DD b_m_divided 109 (.iload 4) 2 111 := ⟨by decide +kernel, rfl⟩
theorem d_m_divided_111 : DD b_m_divided 111 (.iconst 1) 1 112 := ⟨by decide +kernel, rfl⟩
theorem d_m_divided_112 : DD b_m_divided 112 .isub 1 113 := ⟨by decide +kernel, rfl⟩
theorem d_m_divided_113 : DD b_m_divided 113 .iaload 1 114 := ⟨by decide +kernel, rfl⟩
theorem d_m_divided_114 : DD b_m_divided 114 (.istore 7) 2 116 := ⟨by decide +kernel, rfl⟩
theorem d_m_divided_116 : DD b_m_divided 116 (.iload 7) 2 118 := ⟨by decide +kernel, rfl⟩
theorem d_m_divided_118 : DD b_m_divided 118 (.ldc 67) 2 120 := ⟨by decide +kernel, rfl⟩
theorem d_m_divided_120 : DB b_m_divided 120 (.if_icmp .ge 15) 15 123 135 := ⟨by decide +kernel, rfl, rfl⟩
theorem d_m_divided_123 : DD b_m_divided 123 (.iinc 6 1) 3 126 := ⟨by decide +kernel, rfl⟩
theorem d_m_divided_126 : DD b_m_divided 126 (.iload 7) 2 128 := ⟨by decide +kernel, rfl⟩
theorem d_m_divided_128 : DD b_m_divided 128 (.iconst 1) 1 129 := ⟨by decide +kernel, rfl⟩
theorem d_m_divided_129 : DD b_m_divided 129 .ishl 1 130 := ⟨by decide +kernel, rfl⟩
theorem d_m_divided_130 : DD b_m_divided 130 (.istore 7) 2 132 := ⟨by decide +kernel, rfl⟩
theorem d_m_divided_132 : DB b_m_divided 132 (.goto (-16)) (-16) 135 116 := ⟨by decide +kernel, rfl, rfl⟩
theorem d_m_divided_135 : DD b_m_divided 135 (.iload 4) 2 137 := ⟨by decide +kernel, rfl⟩
theorem d_m_divided_137 : DD b_m_divided 137 (.iconst 1) 1 138 := ⟨by decide +kernel, rfl⟩
theorem d_m_divided_138 : DD b_m_divided 138 .isub 1 139 := ⟨by decide +kernel, rfl⟩
theorem d_m_divided_139 : DD b_m_divided 139 (.istore 7) 2 141 := ⟨by decide +kernel, rfl⟩
theorem d_m_divided_141 : DD b_m_divided 141 (.iload 7) 2 143 := ⟨by decide +kernel, rfl⟩
theorem d_m_divided_143 : DB b_m_divided 143 (.ifCond .lt 48) 48 146 191 := ⟨by decide +kernel, rfl, rfl⟩
theorem d_m_divided_146 : DD b_m_divided 146 (.aload_n 0) 1 147 := ⟨by decide +kernel, rfl⟩
theorem d_m_divided_147 : DD b_m_divided 147 (.getfield 40) 3 150 := ⟨by decide +kernel, rfl⟩
theorem d_m_divided_150 : DD b_m_divided 150 (.iload 7) 2 152 := ⟨by decide +kernel, rfl⟩
theorem d_m_divided_152 : DD b_m_divided 152 (.aload_n 3) 1 153 := ⟨by decide +kernel, rfl⟩
theorem d_m_divided_153 : DD b_m_divided 153 (.iload 7) 2 155 := ⟨by decide +kernel, rfl⟩
theorem d_m_divided_155 : DD b_m_divided 155 .iaload 1 156 := ⟨by decide +kernel, rfl⟩
theorem d_m_divided_156 : DD b_m_divided 156 (.iload 6) 2 158 := ⟨by decide +kernel, rfl⟩
theorem d_m_divided_158 : DD b_m_divided 158 .ishl 1 159 := ⟨by decide +kernel, rfl⟩
theorem d_m_divided_159 : DD b_m_divided 159 (.iload 7) 2 161 := ⟨by decide +kernel, rfl⟩
theorem d_m_divided_161 : DB b_m_divided 161 (.ifCond .le 18) 18 164 179 := ⟨by decide +kernel, rfl, rfl⟩
theorem d_m_divided_164 : DD b_m_divided 164 (.aload_n 3) 1 165 := ⟨by decide +kernel, rfl⟩
theorem d_m_divided_165 : DD b_m_divided 165 (.iload 7) 2 167 := ⟨by decide +kernel, rfl⟩
theorem d_m_divided_167 : DD b_m_divided 167 (.iconst 1) 1 168 := ⟨by decide +kernel, rfl⟩
theorem d_m_divided_168 : DD b_m_divided 168 .isub 1 169 := ⟨by decide +kernel, rfl⟩
theorem d_m_divided_169 : DD b_m_divided 169 .iaload 1 170 := ⟨by decide +kernel, rfl⟩
theorem d_m_divided_170 : DD b_m_divided 170 (.bipush 16) 2 172 := ⟨by decide +kernel, rfl⟩
theorem d_m_divided_172 : DD b_m_divided 172 (.iload 6) 2 174 := ⟨by decide +kernel, rfl⟩
theorem d_m_divided_174 : DD b_m_divided 174 .isub 1 175 := ⟨by decide +kernel, rfl⟩
theorem d_m_divided_175 : DD b_m_divided 175 .ishr 1 176 := ⟨by decide +kernel, rfl⟩
theorem d_m_divided_176 : DB b_m_divided 176 (.goto 4) 4 179 180 := ⟨by decide +kernel, rfl, rfl⟩
theorem d_m_divided_179 : DD b_m_divided 179 (.iconst 0) 1 180 := ⟨by decide +kernel, rfl⟩
theorem d_m_divided_180 : DD b_m_divided 180 .ior 1 181 := ⟨by decide +kernel, rfl⟩
theorem d_m_divided_181 : DD b_m_divided 181 (.ldc 53) 2 183 := ⟨by decide +kernel, rfl⟩
theorem d_m_divided_183 : DD b_m_divided 183 .iand 1 184 := ⟨by decide +kernel, rfl⟩
theorem d_m_divided_184 : DD b_m_divided 184 .iastore 1 185 := ⟨by decide +kernel, rfl⟩
theorem d_m_divided_185 : DD b_m_divided 185 (.iinc 7 (-1)) 3 188 := ⟨by decide +kernel, rfl⟩
theorem d_m_divided_188 : DB b_m_divided 188 (.goto (-47)) (-47) 191 141 := ⟨by decide +kernel, rfl, rfl⟩
theorem d_m_divided_191 : DD b_m_divided 191 (.aload_n 1) 1 192 := ⟨by decide +kernel, rfl⟩
theorem d_m_divided_192 : DD b_m_divided 192 (.iload_n 2) 1 193 := ⟨by decide +kernel, rfl⟩
theorem d_m_divided_193 : DD b_m_divided 193 (.iconst 0) 1 194 := ⟨by decide +kernel, rfl⟩
theorem d_m_divided_194 : DD b_m_divided 194 .iastore 1 195 := ⟨by decide +kernel, rfl⟩
theorem d_m_divided_195 : DD b_m_divided 195 (.iload_n 2) 1 196 := ⟨by decide +kernel, rfl⟩
theorem d_m_divided_196 : DD b_m_divided 196 (.istore 7) 2 198 := ⟨by decide +kernel, rfl⟩
theorem d_m_divided_198 : DD b_m_divided 198 (.iload 7) 2 200 := ⟨by decide +kernel, rfl⟩
theorem d_m_divided_200 : DB b_m_divided 200 (.ifCond .lt 45) 45 203 245 := ⟨by decide +kernel, rfl, rfl⟩
theorem d_m_divided_203 : DD b_m_divided 203 (.aload_n 1) 1 204 := ⟨by decide +kernel, rfl⟩
theorem d_m_divided_204 : DD b_m_divided 204 (.iload 7) 2 206 := ⟨by decide +kernel, rfl⟩
theorem d_m_divided_206 : DD b_m_divided 206 (.aload_n 1) 1 207 := ⟨by decide +kernel, rfl⟩
theorem d_m_divided_207 : DD b_m_divided 207 (.iload 7) 2 209 := ⟨by decide +kernel, rfl⟩
theorem d_m_divided_209 : DD b_m_divided 209 .iaload 1 210 := ⟨by decide +kernel, rfl⟩
theorem d_m_divided_210 : DD b_m_divided 210 (.iload 6) 2 212 := ⟨by decide +kernel, rfl⟩
theorem d_m_divided_212 : DD b_m_divided 212 .ishl 1 213 := ⟨by decide +kernel, rfl⟩
theorem d_m_divided_213 : DD b_m_divided 213 (.iload 7) 2 215 := ⟨by decide +kernel, rfl⟩
theorem d_m_divided_215 : DB b_m_divided 215 (.ifCond .le 18) 18 218 233 := ⟨by decide +kernel, rfl, rfl⟩
theorem d_m_divided_218 : DD b_m_divided 218 (.aload_n 1) 1 219 := ⟨by decide +kernel, rfl⟩
theorem d_m_divided_219 : DD b_m_divided 219 (.iload 7) 2 221 := ⟨by decide +kernel, rfl⟩
theorem d_m_divided_221 : DD b_m_divided 221 (.iconst 1) 1 222 := ⟨by decide +kernel, rfl⟩
theorem d_m_divided_222 : DD b_m_divided 222 .isub 1 223 := ⟨by decide +kernel, rfl⟩
theorem d_m_divided_223 : DD b_m_divided 223 .iaload 1 224 := ⟨by decide +kernel, rfl⟩
theorem d_m_divided_224 : DD b_m_divided 224 (.bipush 16) 2 226 := ⟨by decide +kernel, rfl⟩
theorem d_m_divided_226 : DD b_m_divided 226 (.iload 6) 2 228 := ⟨by decide +kernel, rfl⟩
theorem d_m_divided_228 : DD b_m_divided 228 .isub 1 229 := ⟨by decide +kernel, rfl⟩
theorem d_m_divided_229 : DD b_m_divided 229 .ishr 1 230 := ⟨by decide +kernel, rfl⟩
theorem d_m_divided_230 : DB b_m_divided 230 (.goto 4) 4 233 234 := ⟨by decide +kernel, rfl, rfl⟩
theorem d_m_divided_233 : DD b_m_divided 233 (.iconst 0) 1 234 := ⟨by decide +kernel, rfl⟩
theorem d_m_divided_234 : DD b_m_divided 234 .ior 1 235 := ⟨by decide +kernel, rfl⟩
theorem d_m_divided_235 : DD b_m_divided 235 (.ldc 53) 2 237 := ⟨by decide +kernel, rfl⟩
theorem d_m_divided_237 : DD b_m_divided 237 .iand 1 238 := ⟨by decide +kernel, rfl⟩
theorem d_m_divided_238 : DD b_m_divided 238 .iastore 1 239 := ⟨by decide +kernel, rfl⟩
theorem d_m_divided_239 : DD b_m_divided 239 (.iinc 7 (-1)) 3 242 := ⟨by decide +kernel, rfl⟩
theorem d_m_divided_242 : DB b_m_divided 242 (.goto (-44)) (-44) 245 198 := ⟨by decide +kernel, rfl, rfl⟩
theorem d_m_divided_245 : DD b_m_divided 245 (.iload_n 2) 1 246 := ⟨by decide +kernel, rfl⟩
theorem d_m_divided_246 : DD b_m_divided 246 (.iload 4) 2 248 := ⟨by decide +kernel, rfl⟩
theorem d_m_divided_248 : DD b_m_divided 248 .isub 1 249 := ⟨by decide +kernel, rfl⟩
theorem d_m_divided_249 : DD b_m_divided 249 (.istore 7) 2 251 := ⟨by decide +kernel, rfl⟩
theorem d_m_divided_251 : DD b_m_divided 251 (.iload 7) 2 253 := ⟨by decide +kernel, rfl⟩
theorem d_m_divided_253 : DB b_m_divided 253 (.ifCond .lt 329) 329 256 582 := ⟨by decide +kernel, rfl, rfl⟩
theorem d_m_divided_256 : DD b_m_divided 256 (.aload_n 1) 1 257 := ⟨by decide +kernel, rfl⟩
theorem d_m_divided_257 : DD b_m_divided 257 (.iload 7) 2 259 := ⟨by decide +kernel, rfl⟩
theorem d_m_divided_259 : DD b_m_divided 259 (.iload 4) 2 261 := ⟨by decide +kernel, rfl⟩
theorem d_m_divided_261 : DD b_m_divided 261 .iadd 1 262 := ⟨by decide +kernel, rfl⟩
theorem d_m_divided_262 : DD b_m_divided 262 .iaload 1 263 := ⟨by decide +kernel, rfl⟩
theorem d_m_divided_263 : DD b_m_divided 263 .i2l 1 264 := ⟨by decide +kernel, rfl⟩
theorem d_m_divided_264 : DD b_m_divided 264 (.bipush 16) 2 266 := ⟨by decide +kernel, rfl⟩
theorem d_m_divided_266 : DD b_m_divided 266 .lshl 1 267 := ⟨by decide +kernel, rfl⟩
theorem d_m_divided_267 : DD b_m_divided 267 (.aload_n 1) 1 268 := ⟨by decide +kernel, rfl⟩
theorem d_m_divided_268 : DD b_m_divided 268 (.iload 7) 2 270 := ⟨by decide +kernel, rfl⟩
theorem d_m_divided_270 : DD b_m_divided 270 (.iload 4) 2 272 := ⟨by decide +kernel, rfl⟩
theorem d_m_divided_272 : DD b_m_divided 272 .iadd 1 273 := ⟨by decide +kernel, rfl⟩
theorem d_m_divided_273 : DD b_m_divided 273 (.iconst 1) 1 274 := ⟨by decide +kernel, rfl⟩
theorem d_m_divided_274 : DD b_m_divided 274 .isub 1 275 := ⟨by decide +kernel, rfl⟩
theorem d_m_divided_275 : DD b_m_divided 275 .iaload 1 276 := ⟨by decide +kernel, rfl⟩
theorem d_m_divided_276 : DD b_m_divided 276 .i2l 1 277 := ⟨by decide +kernel, rfl⟩
theorem d_m_divided_277 : DD b_m_divided 277 .lor 1 278 := ⟨by decide +kernel, rfl⟩
theorem d_m_divided_278 : DD b_m_divided 278 (.lstore 8) 2 280 := ⟨by decide +kernel, rfl⟩
theorem d_m_divided_280 : DD b_m_divided 280 (.lload 8) 2 282 := ⟨by decide +kernel, rfl⟩
theorem d_m_divided_282 : DD b_m_divided 282 (.aload_n 0) 1 283 := ⟨by decide +kernel, rfl⟩
theorem d_m_divided_283 : DD b_m_divided 283 (.getfield 40) 3 286 := ⟨by decide +kernel, rfl⟩
theorem d_m_divided_286 : DD b_m_divided 286 (.iload 4) 2 288 := ⟨by decide +kernel, rfl⟩
theorem d_m_divided_288 : DD b_m_divided 288 (.iconst 1) 1 289 := ⟨by decide +kernel, rfl⟩
theorem d_m_divided_289 : DD b_m_divided 289 .isub 1 290 := ⟨by decide +kernel, rfl⟩
theorem d_m_divided_290 : DD b_m_divided 290 .iaload 1 291 := ⟨by decide +kernel, rfl⟩
theorem d_m_divided_291 : DD b_m_divided 291 .i2l 1 292 := ⟨by decide +kernel, rfl⟩
theorem d_m_divided_292 : DD b_m_divided 292 .ldiv 1 293 := ⟨by decide +kernel, rfl⟩
theorem d_m_divided_293 : DD b_m_divided 293 (.lstore 10) 2 295 := ⟨by decide +kernel, rfl⟩
theorem d_m_divided_295 : DD b_m_divided 295 (.lload 8) 2 297 := ⟨by decide +kernel, rfl⟩
theorem d_m_divided_297 : DD b_m_divided 297 (.aload_n 0) 1 298 := ⟨by decide +kernel, rfl⟩
theorem d_m_divided_298 : DD b_m_divided 298 (.getfield 40) 3 301 := ⟨by decide +kernel, rfl⟩
theorem d_m_divided_301 : DD b_m_divided 301 (.iload 4) 2 303 := ⟨by decide +kernel, rfl⟩
theorem d_m_divided_303 : DD b_m_divided 303 (.iconst 1) 1 304 := ⟨by decide +kernel, rfl⟩
theorem d_m_divided_304 : DD b_m_divided 304 .isub 1 305 := ⟨by decide +kernel, rfl⟩
theorem d_m_divided_305 : DD b_m_divided 305 .iaload 1 306 := ⟨by decide +kernel, rfl⟩
theorem d_m_divided_306 : DD b_m_divided 306 .i2l 1 307 := ⟨by decide +kernel, rfl⟩
theorem d_m_divided_307 : DD b_m_divided 307 .lrem 1 308 := ⟨by decide +kernel, rfl⟩
theorem d_m_divided_308 : DD b_m_divided 308 (.lstore 12) 2 310 := ⟨by decide +kernel, rfl⟩
theorem d_m_divided_310 : DD b_m_divided 310 (.lload 10) 2 312 := ⟨by decide +kernel, rfl⟩
theorem d_m_divided_312 : DD b_m_divided 312 (.ldc2_w 58) 3 315 := ⟨by decide +kernel, rfl⟩
theorem d_m_divided_315 : DD b_m_divided 315 .lcmp 1 316 := ⟨by decide +kernel, rfl⟩
theorem d_m_divided_316 : DB b_m_divided 316 (.ifCond .gt 36) 36 319 352 := ⟨by decide +kernel, rfl, rfl⟩
theorem d_m_divided_319 : DD b_m_divided 319 (.lload 10) 2 321 := ⟨by decide +kernel, rfl⟩
theorem d_m_divided_321 : DD b_m_divided 321 (.aload_n 0) 1 322 := ⟨by decide +kernel, rfl⟩
theorem d_m_divided_322 : DD b_m_divided 322 (.getfield 40) 3 325 := ⟨by decide +kernel, rfl⟩
theorem d_m_divided_325 : DD b_m_divided 325 (.iload 4) 2 327 := ⟨by decide +kernel, rfl⟩
theorem d_m_divided_327 : DD b_m_divided 327 (.iconst 2) 1 328 := ⟨by decide +kernel, rfl⟩
theorem d_m_divided_328 : DD b_m_divided 328 .isub 1 329 := ⟨by decide +kernel, rfl⟩
theorem d_m_divided_329 : DD b_m_divided 329 .iaload 1 330 := ⟨by decide +kernel, rfl⟩
theorem d_m_divided_330 : DD b_m_divided 330 .i2l 1 331 := ⟨by decide +kernel, rfl⟩
theorem d_m_divided_331 : DD b_m_divided 331 .lmul 1 332 := ⟨by decide +kernel, rfl⟩
theorem d_m_divided_332 : DD b_m_divided 332 (.lload 12) 2 334 := ⟨by decide +kernel, rfl⟩
theorem d_m_divided_334 : DD b_m_divided 334 (.bipush 16) 2 336 := ⟨by decide +kernel, rfl⟩
theorem d_m_divided_336 : DD b_m_divided 336 .lshl 1 337 := ⟨by decide +kernel, rfl⟩
theorem d_m_divided_337 : DD b_m_divided 337 (.aload_n 1) 1 338 := ⟨by decide +kernel, rfl⟩
theorem d_m_divided_338 : DD b_m_divided 338 (.iload 7) 2 340 := ⟨by decide +kernel, rfl⟩
theorem d_m_divided_340 : DD b_m_divided 340 (.iload 4) 2 342 := ⟨by decide +kernel, rfl⟩
theorem d_m_divided_342 : DD b_m_divided 342 .iadd 1 343 := ⟨by decide +kernel, rfl⟩
theorem d_m_divided_343 : DD b_m_divided 343 (.iconst 2) 1 344 := ⟨by decide +kernel, rfl⟩
theorem d_m_divided_344 : DD b_m_divided 344 .isub 1 345 := ⟨by decide +kernel, rfl⟩
theorem d_m_divided_345 : DD b_m_divided 345 .iaload 1 346 := ⟨by decide +kernel, rfl⟩
theorem d_m_divided_346 : DD b_m_divided 346 .i2l 1 347 := ⟨by decide +kernel, rfl⟩
theorem d_m_divided_347 : DD b_m_divided 347 .lor 1 348 := ⟨by decide +kernel, rfl⟩
theorem d_m_divided_348 : DD b_m_divided 348 .lcmp 1 349 := ⟨by decide +kernel, rfl⟩
theorem d_m_divided_349 : DB b_m_divided 349 (.ifCond .le 36) 36 352 385 := ⟨by decide +kernel, rfl, rfl⟩
theorem d_m_divided_352 : DD b_m_divided 352 (.lload 10) 2 354 := ⟨by decide +kernel, rfl⟩
theorem d_m_divided_354 : DD b_m_divided 354 (.lconst 1) 1 355 := ⟨by decide +kernel, rfl⟩
theorem d_m_divided_355 : DD b_m_divided 355 .lsub 1 356 := ⟨by decide +kernel, rfl⟩
theorem d_m_divided_356 : DD b_m_divided 356 (.lstore 10) 2 358 := ⟨by decide +kernel, rfl⟩
theorem d_m_divided_358 : DD b_m_divided 358 (.lload 12) 2 360 := ⟨by decide +kernel, rfl⟩
theorem d_m_divided_360 : DD b_m_divided 360 (.aload_n 0) 1 361 := ⟨by decide +kernel, rfl⟩
theorem d_m_divided_361 : DD b_m_divided 361 (.getfield 40) 3 364 := ⟨by decide +kernel, rfl⟩
theorem d_m_divided_364 : DD b_m_divided 364 (.iload 4) 2 366 := ⟨by decide +kernel, rfl⟩
theorem d_m_divided_366 : DD b_m_divided 366 (.iconst 1) 1 367 := ⟨by decide +kernel, rfl⟩
theorem d_m_divided_367 : DD b_m_divided 367 .isub 1 368 := ⟨by decide +kernel, rfl⟩
theorem d_m_divided_368 : DD b_m_divided 368 .iaload 1 369 := ⟨by decide +kernel, rfl⟩
theorem d_m_divided_369 : DD b_m_divided 369 .i2l 1 370 := ⟨by decide +kernel, rfl⟩
theorem d_m_divided_370 : DD b_m_divided 370 .ladd 1 371 := ⟨by decide +kernel, rfl⟩
theorem d_m_divided_371 : DD b_m_divided 371 (.lstore 12) 2 373 := ⟨by decide +kernel, rfl⟩
theorem d_m_divided_373 : DD b_m_divided 373 (.lload 12) 2 375 := ⟨by decide +kernel, rfl⟩
theorem d_m_divided_375 : DD b_m_divided 375 (.ldc2_w 58) 3 378 := ⟨by decide +kernel, rfl⟩
theorem d_m_divided_378 : DD b_m_divided 378 .lcmp 1 379 := ⟨by decide +kernel, rfl⟩
theorem d_m_divided_379 : DB b_m_divided 379 (.ifCond .le (-69)) (-69) 382 310 := ⟨by decide +kernel, rfl, rfl⟩
theorem d_m_divided_382 : DB b_m_divided 382 (.goto 3) 3 385 385 := ⟨by decide +kernel, rfl, rfl⟩
theorem d_m_divided_385 : DD b_m_divided 385 (.lconst 0) 1 386 := ⟨by decide +kernel, rfl⟩
theorem d_m_divided_386 : DD b_m_divided 386 (.lstore 14) 2 388 := ⟨by decide +kernel, rfl⟩
theorem d_m_divided_388 : DD b_m_divided 388 (.iconst 0) 1 389 := ⟨by decide +kernel, rfl⟩
theorem d_m_divided_389 : DD b_m_divided 389 (.istore 16) 2 391 := ⟨by decide +kernel, rfl⟩
theorem d_m_divided_391 : DD b_m_divided 391 (.iload 16) 2 393 := ⟨by decide +kernel, rfl⟩
theorem d_m_divided_393 : DD b_m_divided 393 (.iload 4) 2 395 := ⟨by decide +kernel, rfl⟩
theorem d_m_divided_395 : DB b_m_divided 395 (.if_icmp .ge 55) 55 398 450 := ⟨by decide +kernel, rfl, rfl⟩
theorem d_m_divided_398 : DD b_m_divided 398 (.lload 14) 2 400 := ⟨by decide +kernel, rfl⟩
theorem d_m_divided_400 : DD b_m_divided 400 (.aload_n 1) 1 401 := ⟨by decide +kernel, rfl⟩
theorem d_m_divided_401 : DD b_m_divided 401 (.iload 7) 2 403 := ⟨by decide +kernel, rfl⟩
theorem d_m_divided_403 : DD b_m_divided 403 (.iload 16) 2 405 := ⟨by decide +kernel, rfl⟩
theorem d_m_divided_405 : DD b_m_divided 405 .iadd 1 406 := ⟨by decide +kernel, rfl⟩
theorem d_m_divided_406 : DD b_m_divided 406 .iaload 1 407 := ⟨by decide +kernel, rfl⟩
theorem d_m_divided_407 : DD b_m_divided 407 .i2l 1 408 := ⟨by decide +kernel, rfl⟩
theorem d_m_divided_408 : DD b_m_divided 408 (.lload 10) 2 410 := ⟨by decide +kernel, rfl⟩
theorem d_m_divided_410 : DD b_m_divided 410 (.aload_n 0) 1 411 := ⟨by decide +kernel, rfl⟩
theorem d_m_divided_411 : DD b_m_divided 411 (.getfield 40) 3 414 := ⟨by decide +kernel, rfl⟩
theorem d_m_divided_414 : DD b_m_divided 414 (.iload 16) 2 416 := ⟨by decide +kernel, rfl⟩
theorem d_m_divided_416 : DD b_m_divided 416 .iaload 1 417 := ⟨by decide +kernel, rfl⟩
theorem d_m_divided_417 : DD b_m_divided 417 .i2l 1 418 := ⟨by decide +kernel, rfl⟩
theorem d_m_divided_418 : DD b_m_divided 418 .lmul 1 419 := ⟨by decide +kernel, rfl⟩
theorem d_m_divided_419 : DD b_m_divided 419 .lsub 1 420 := ⟨by decide +kernel, rfl⟩
theorem d_m_divided_420 : DD b_m_divided 420 .ladd 1 421 := ⟨by decide +kernel, rfl⟩
theorem d_m_divided_421 : DD b_m_divided 421 (.lstore 14) 2 423 := ⟨by decide +kernel, rfl⟩
theorem d_m_divided_423 : DD b_m_divided 423 (.aload_n 1) 1 424 := ⟨by decide +kernel, rfl⟩
theorem d_m_divided_424 : DD b_m_divided 424 (.iload 7) 2 426 := ⟨by decide +kernel, rfl⟩
theorem d_m_divided_426 : DD b_m_divided 426 (.iload 16) 2 428 := ⟨by decide +kernel, rfl⟩
theorem d_m_divided_428 : DD b_m_divided 428 .iadd 1 429 := ⟨by decide +kernel, rfl⟩
theorem d_m_divided_429 : DD b_m_divided 429 (.lload 14) 2 431 := ⟨by decide +kernel, rfl⟩
theorem d_m_divided_431 : DD b_m_divided 431 (.ldc2_w 58) 3 434 := ⟨by decide +kernel, rfl⟩
theorem d_m_divided_434 : DD b_m_divided 434 .land 1 435 := ⟨by decide +kernel, rfl⟩
theorem d_m_divided_435 : DD b_m_divided 435 .l2i 1 436 := ⟨by decide +kernel, rfl⟩
theorem d_m_divided_436 : DD b_m_divided 436 .iastore 1 437 := ⟨by decide +kernel, rfl⟩
theorem d_m_divided_437 : DD b_m_divided 437 (.lload 14) 2 439 := ⟨by decide +kernel, rfl⟩
theorem d_m_divided_439 : DD b_m_divided 439 (.bipush 16) 2 441 := ⟨by decide +kernel, rfl⟩
theorem d_m_divided_441 : DD b_m_divided 441 .lshr 1 442 := ⟨by decide +kernel, rfl⟩
theorem d_m_divided_442 : DD b_m_divided 442 (.lstore 14) 2 444 := ⟨by decide +kernel, rfl⟩
theorem d_m_divided_444 : DD b_m_divided 444 (.iinc 16 1) 3 447 := ⟨by decide +kernel, rfl⟩
theorem d_m_divided_447 : DB b_m_divided 447 (.goto (-56)) (-56) 450 391 := ⟨by decide +kernel, rfl, rfl⟩
theorem d_m_divided_450 : DD b_m_divided 450 (.lload 14) 2 452 := ⟨by decide +kernel, rfl⟩
theorem d_m_divided_452 : DD b_m_divided 452 (.aload_n 1) 1 453 := ⟨by decide +kernel, rfl⟩
theorem d_m_divided_453 : DD b_m_divided 453 (.iload 7) 2 455 := ⟨by decide +kernel, rfl⟩
theorem d_m_divided_455 : DD b_m_divided 455 (.iload 4) 2 457 := ⟨by decide +kernel, rfl⟩
theorem d_m_divided_457 : DD b_m_divided 457 .iadd 1 458 := ⟨by decide +kernel, rfl⟩
theorem d_m_divided_458 : DD b_m_divided 458 .iaload 1 459 := ⟨by decide +kernel, rfl⟩
theorem d_m_divided_459 : DD b_m_divided 459 .i2l 1 460 := ⟨by decide +kernel, rfl⟩
theorem d_m_divided_460 : DD b_m_divided 460 .ladd 1 461 := ⟨by decide +kernel, rfl⟩
theorem d_m_divided_461 : DD b_m_divided 461 (.lstore 14) 2 463 := ⟨by decide +kernel, rfl⟩
theorem d_m_divided_463 : DD b_m_divided 463 (.aload_n 1) 1 464 := ⟨by decide +kernel, rfl⟩
theorem d_m_divided_464 : DD b_m_divided 464 (.iload 7) 2 466 := ⟨by decide +kernel, rfl⟩
theorem d_m_divided_466 : DD b_m_divided 466 (.iload 4) 2 468 := ⟨by decide +kernel, rfl⟩
theorem d_m_divided_468 : DD b_m_divided 468 .iadd 1 469 := ⟨by decide +kernel, rfl⟩
theorem d_m_divided_469 : DD b_m_divided 469 (.lload 14) 2 471 := ⟨by decide +kernel, rfl⟩
theorem d_m_divided_471 : DD b_m_divided 471 (.ldc2_w 58) 3 474 := ⟨by decide +kernel, rfl⟩
theorem d_m_divided_474 : DD b_m_divided 474 .land 1 475 := ⟨by decide +kernel, rfl⟩
theorem d_m_divided_475 : DD b_m_divided 475 .l2i 1 476 := ⟨by decide +kernel, rfl⟩
theorem d_m_divided_476 : DD b_m_divided 476 .iastore 1 477 := ⟨by decide +kernel, rfl⟩
theorem d_m_divided_477 : DD b_m_divided 477 (.lload 14) 2 479 := ⟨by decide +kernel, rfl⟩
theorem d_m_divided_479 : DD b_m_divided 479 (.lconst 0) 1 480 := ⟨by decide +kernel, rfl⟩
theorem d_m_divided_480 : DD b_m_divided 480 .lcmp 1 481 := ⟨by decide +kernel, rfl⟩
theorem d_m_divided_481 : DB b_m_divided 481 (.ifCond .ge 87) 87 484 568 := ⟨by decide +kernel, rfl, rfl⟩
theorem d_m_divided_484 : DD b_m_divided 484 (.lload 10) 2 486 := ⟨by decide +kernel, rfl⟩
theorem d_m_divided_486 : DD b_m_divided 486 (.lconst 1) 1 487 := ⟨by decide +kernel, rfl⟩
theorem d_m_divided_487 : DD b_m_divided 487 .lsub 1 488 := ⟨by decide +kernel, rfl⟩
theorem d_m_divided_488 : DD b_m_divided 488 (.lstore 10) 2 490 := ⟨by decide +kernel, rfl⟩
theorem d_m_divided_490 : DD b_m_divided 490 (.iconst 0) 1 491 := ⟨by decide +kernel, rfl⟩
theorem d_m_divided_491 : DD b_m_divided 491 (.istore 16) 2 493 := ⟨by decide +kernel, rfl⟩
theorem d_m_divided_493 : DD b_m_divided 493 (.iconst 0) 1 494 := ⟨by decide +kernel, rfl⟩
theorem d_m_divided_494 : DD b_m_divided 494 (.istore 17) 2 496 := ⟨by decide +kernel, rfl⟩
theorem d_m_divided_496 : DD b_m_divided 496 (.iload 17) 2 498 := ⟨by decide +kernel, rfl⟩
theorem d_m_divided_498 : DD b_m_divided 498 (.iload 4) 2 500 := ⟨by decide +kernel, rfl⟩
theorem d_m_divided_500 : DB b_m_divided 500 (.if_icmp .ge 48) 48 503 548 := ⟨by decide +kernel, rfl, rfl⟩
theorem d_m_divided_503 : DD b_m_divided 503 (.iload 16) 2 505 := ⟨by decide +kernel, rfl⟩
theorem d_m_divided_505 : DD b_m_divided 505 (.aload_n 1) 1 506 := ⟨by decide +kernel, rfl⟩
theorem d_m_divided_506 : DD b_m_divided 506 (.iload 7) 2 508 := ⟨by decide +kernel, rfl⟩
theorem d_m_divided_508 : DD b_m_divided 508 (.iload 17) 2 510 := ⟨by decide +kernel, rfl⟩
theorem d_m_divided_510 : DD b_m_divided 510 .iadd 1 511 := ⟨by decide +kernel, rfl⟩
theorem d_m_divided_511 : DD b_m_divided 511 .iaload 1 512 := ⟨by decide +kernel, rfl⟩
theorem d_m_divided_512 : DD b_m_divided 512 (.aload_n 0) 1 513 := ⟨by decide +kernel, rfl⟩
theorem d_m_divided_513 : DD b_m_divided 513 (.getfield 40) 3 516 := ⟨by decide +kernel, rfl⟩
theorem d_m_divided_516 : DD b_m_divided 516 (.iload 17) 2 518 := ⟨by decide +kernel, rfl⟩
theorem d_m_divided_518 : DD b_m_divided 518 .iaload 1 519 := ⟨by decide +kernel, rfl⟩
theorem d_m_divided_519 : DD b_m_divided 519 .iadd 1 520 := ⟨by decide +kernel, rfl⟩
theorem d_m_divided_520 : DD b_m_divided 520 .iadd 1 521 := ⟨by decide +kernel, rfl⟩
theorem d_m_divided_521 : DD b_m_divided 521 (.istore 16) 2 523 := ⟨by decide +kernel, rfl⟩
theorem d_m_divided_523 : DD b_m_divided 523 (.aload_n 1) 1 524 := ⟨by decide +kernel, rfl⟩
theorem d_m_divided_524 : DD b_m_divided 524 (.iload 7) 2 526 := ⟨by decide +kernel, rfl⟩
theorem d_m_divided_526 : DD b_m_divided 526 (.iload 17) 2 528 := ⟨by decide +kernel, rfl⟩
theorem d_m_divided_528 : DD b_m_divided 528 .iadd 1 529 := ⟨by decide +kernel, rfl⟩
theorem d_m_divided_529 : DD b_m_divided 529 (.iload 16) 2 531 := ⟨by decide +kernel, rfl⟩
theorem d_m_divided_531 : DD b_m_divided 531 (.ldc 53) 2 533 := ⟨by decide +kernel, rfl⟩
theorem d_m_divided_533 : DD b_m_divided 533 .iand 1 534 := ⟨by decide +kernel, rfl⟩
theorem d_m_divided_534 : DD b_m_divided 534 .iastore 1 535 := ⟨by decide +kernel, rfl⟩
theorem d_m_divided_535 : DD b_m_divided 535 (.iload 16) 2 537 := ⟨by decide +kernel, rfl⟩
theorem d_m_divided_537 : DD b_m_divided 537 (.bipush 16) 2 539 := ⟨by decide +kernel, rfl⟩
theorem d_m_divided_539 : DD b_m_divided 539 .ishr 1 540 := ⟨by decide +kernel, rfl⟩
theorem d_m_divided_540 : DD b_m_divided 540 (.istore 16) 2 542 := ⟨by decide +kernel, rfl⟩
theorem d_m_divided_542 : DD b_m_divided 542 (.iinc 17 1) 3 545 := ⟨by decide +kernel, rfl⟩
theorem d_m_divided_545 : DB b_m_divided 545 (.goto (-49)) (-49) 548 496 := ⟨by decide +kernel, rfl, rfl⟩
theorem d_m_divided_548 : DD b_m_divided 548 (.aload_n 1) 1 549 := ⟨by decide +kernel, rfl⟩
theorem d_m_divided_549 : DD b_m_divided 549 (.iload 7) 2 551 := ⟨by decide +kernel, rfl⟩
theorem d_m_divided_551 : DD b_m_divided 551 (.iload 4) 2 553 := ⟨by decide +kernel, rfl⟩
theorem d_m_divided_553 : DD b_m_divided 553 .iadd 1 554 := ⟨by decide +kernel, rfl⟩
theorem d_m_divided_554 : DD b_m_divided 554 (.aload_n 1) 1 555 := ⟨by decide +kernel, rfl⟩
theorem d_m_divided_555 : DD b_m_divided 555 (.iload 7) 2 557 := ⟨by decide +kernel, rfl⟩
theorem d_m_divided_557 : DD b_m_divided 557 (.iload 4) 2 559 := ⟨by decide +kernel, rfl⟩
theorem d_m_divided_559 : DD b_m_divided 559 .iadd 1 560 := ⟨by decide +kernel, rfl⟩
theorem d_m_divided_560 : DD b_m_divided 560 .iaload 1 561 := ⟨by decide +kernel, rfl⟩
theorem d_m_divided_561 : DD b_m_divided 561 (.iload 16) 2 563 := ⟨by decide +kernel, rfl⟩
theorem d_m_divided_563 : DD b_m_divided 563 .iadd 1 564 := ⟨by decide +kernel, rfl⟩
theorem d_m_divided_564 : DD b_m_divided 564 (.ldc 53) 2 566 := ⟨by decide +kernel, rfl⟩
theorem d_m_divided_566 : DD b_m_divided 566 .iand 1 567 := ⟨by decide +kernel, rfl⟩
theorem d_m_divided_567 : DD b_m_divided 567 .iastore 1 568 := ⟨by decide +kernel, rfl⟩
theorem d_m_divided_568 : DD b_m_divided 568 (.aload 5) 2 570 := ⟨by decide +kernel, rfl⟩
theorem d_m_divided_570 : DD b_m_divided 570 (.iload 7) 2 572 := ⟨by decide +kernel, rfl⟩
theorem d_m_divided_572 : DD b_m_divided 572 (.lload 10) 2 574 := ⟨by decide +kernel, rfl⟩
theorem d_m_divided_574 : DD b_m_divided 574 .l2i 1 575 := ⟨by decide +kernel, rfl⟩
theorem d_m_divided_575 : DD b_m_divided 575 .iastore 1 576 := ⟨by decide +kernel, rfl⟩
theorem d_m_divided_576 : DD b_m_divided 576 (.iinc 7 (-1)) 3 579 := ⟨by decide +kernel, rfl⟩
theorem d_m_divided_579 : DB b_m_divided 579 (.goto (-328)) (-328) 582 251 := ⟨by decide +kernel, rfl, rfl⟩
theorem d_m_divided_582 : DD b_m_divided 582 (.aload_n 0) 1 583 := ⟨by decide +kernel, rfl⟩
theorem d_m_divided_583 : DD b_m_divided 583 (.aload 5) 2 585 := ⟨by decide +kernel, rfl⟩
theorem d_m_divided_585 : DD b_m_divided 585 (.iload_n 2) 1 586 := ⟨by decide +kernel, rfl⟩
theorem d_m_divided_586 : DD b_m_divided 586 (.iload 4) 2 588 := ⟨by decide +kernel, rfl⟩
theorem d_m_divided_588 : DD b_m_divided 588 .isub 1 589 := ⟨by decide +kernel, rfl⟩
theorem d_m_divided_589 : DD b_m_divided 589 (.iconst 1) 1 590 := ⟨by decide +kernel, rfl⟩
theorem d_m_divided_590 : DD b_m_divided 590 .iadd 1 591 := ⟨by decide +kernel, rfl⟩
theorem d_m_divided_591 : DD b_m_divided 591 (.invokestatic 54) 3 594 := ⟨by decide +kernel, rfl⟩
theorem d_m_divided_594 : DD b_m_divided 594 (.putfield 64) 3 597 := ⟨by decide +kernel, rfl⟩
theorem d_m_divided_597 : DD b_m_divided 597 (.iconst 0) 1 598 := ⟨by decide +kernel, rfl⟩
theorem d_m_divided_598 : DD b_m_divided 598 (.istore 7) 2 600 := ⟨by decide +kernel, rfl⟩
theorem d_m_divided_600 : DD b_m_divided 600 (.iload 7) 2 602 := ⟨by decide +kernel, rfl⟩
theorem d_m_divided_602 : DD b_m_divided 602 (.iload 4) 2 604 := ⟨by decide +kernel, rfl⟩
theorem d_m_divided_604 : DB b_m_divided 604 (.if_icmp .ge 49) 49 607 653 := ⟨by decide +kernel, rfl, rfl⟩
theorem d_m_divided_607 : DD b_m_divided 607 (.aload_n 1) 1 608 := ⟨by decide +kernel, rfl⟩
theorem d_m_divided_608 : DD b_m_divided 608 (.iload 7) 2 610 := ⟨by decide +kernel, rfl⟩
theorem d_m_divided_610 : DD b_m_divided 610 (.aload_n 1) 1 611 := ⟨by decide +kernel, rfl⟩
theorem d_m_divided_611 : DD b_m_divided 611 (.iload 7) 2 613 := ⟨by decide +kernel, rfl⟩
theorem d_m_divided_613 : DD b_m_divided 613 .iaload 1 614 := ⟨by decide +kernel, rfl⟩
theorem d_m_divided_614 : DD b_m_divided 614 (.iload 6) 2 616 := ⟨by decide +kernel, rfl⟩
theorem d_m_divided_616 : DD b_m_divided 616 .ishr 1 617 := ⟨by decide +kernel, rfl⟩
theorem d_m_divided_617 : DD b_m_divided 617 (.iload 7) 2 619 := ⟨by decide +kernel, rfl⟩
theorem d_m_divided_619 : DD b_m_divided 619 (.iconst 1) 1 620 := ⟨by decide +kernel, rfl⟩
theorem d_m_divided_620 : DD b_m_divided 620 .iadd 1 621 := ⟨by decide +kernel, rfl⟩
theorem d_m_divided_621 : DD b_m_divided 621 (.iload 4) 2 623 := ⟨by decide +kernel, rfl⟩
theorem d_m_divided_623 : DB b_m_divided 623 (.if_icmp .gt 18) 18 626 641 := ⟨by decide +kernel, rfl, rfl⟩
theorem d_m_divided_626 : DD b_m_divided 626 (.aload_n 1) 1 627 := ⟨by decide +kernel, rfl⟩
theorem d_m_divided_627 : DD b_m_divided 627 (.iload 7) 2 629 := ⟨by decide +kernel, rfl⟩
theorem d_m_divided_629 : DD b_m_divided 629 (.iconst 1) 1 630 := ⟨by decide +kernel, rfl⟩
theorem d_m_divided_630 : DD b_m_divided 630 .iadd 1 631 := ⟨by decide +kernel, rfl⟩
theorem d_m_divided_631 : DD b_m_divided 631 .iaload 1 632 := ⟨by decide +kernel, rfl⟩
theorem d_m_divided_632 : DD b_m_divided 632 (.bipush 16) 2 634 := ⟨by decide +kernel, rfl⟩
theorem d_m_divided_634 : DD b_m_divided 634 (.iload 6) 2 636 := ⟨by decide +kernel, rfl⟩
theorem d_m_divided_636 : DD b_m_divided 636 .isub 1 637 := ⟨by decide +kernel, rfl⟩
theorem d_m_divided_637 : DD b_m_divided 637 .ishl 1 638 := ⟨by decide +kernel, rfl⟩
theorem d_m_divided_638 : DB b_m_divided 638 (.goto 4) 4 641 642 := ⟨by decide +kernel, rfl, rfl⟩
theorem d_m_divided_641 : DD b_m_divided 641 (.iconst 0) 1 642 := ⟨by decide +kernel, rfl⟩
theorem d_m_divided_642 : DD b_m_divided 642 .ior 1 643 := ⟨by decide +kernel, rfl⟩
theorem d_m_divided_643 : DD b_m_divided 643 (.ldc 53) 2 645 := ⟨by decide +kernel, rfl⟩
theorem d_m_divided_645 : DD b_m_divided 645 .iand 1 646 := ⟨by decide +kernel, rfl⟩
theorem d_m_divided_646 : DD b_m_divided 646 .iastore 1 647 := ⟨by decide +kernel, rfl⟩
theorem d_m_divided_647 : DD b_m_divided 647 (.iinc 7 1) 3 650 := ⟨by decide +kernel, rfl⟩
theorem d_m_divided_650 : DB b_m_divided 650 (.goto (-50)) (-50) 653 600 := ⟨by decide +kernel, rfl, rfl⟩
theorem d_m_divided_653 : DD b_m_divided 653 (.aload_n 1) 1 654 := ⟨by decide +kernel, rfl⟩
theorem d_m_divided_654 : DD b_m_divided 654 (.iload 4) 2 656 := ⟨by decide +kernel, rfl⟩
theorem d_m_divided_656 : DD b_m_divided 656 (.invokestatic 54) 3 659 := ⟨by decide +kernel, rfl⟩
theorem d_m_divided_659 : DD b_m_divided 659 .ireturn 1 660 := ⟨by decide +kernel, rfl⟩
set_option maxRecDepth 20000 in
set_option maxHeartbeats 4000000 in
theorem c_m_divided (l : Launch) (G : ZG) {p0 p1 p2 p3 p4 : Int} {σ : Mem} {K : Int → Mem → Prop} (h : wp_m_divided p0 p1 p2 p3 p4 σ K) (h_p0 : isA p0) (h_p1 : okI p1) (h_p2 : isA p2) (h_p3 : okI p3) (h_p4 : isA p4) : Ct l G y_m_divided (.code y_m_divided b_m_divided 18 (some .int)) { frames := 1, cells := 0, slots := 0, locals := 24 } 0 0 1 [.ref (zA G 45), .ref (zA G p0), .int (iI p1), .ref (zA G p2), .int (iI p3), .ref (zA G p4)] σ K (fun _ _ => False) := by
  unfold wp_m_divided at h
  refine Ct.ofZ [(0, .ref (zA G 45)), (1, .ref (zA G p0)), (2, .int (iI p1)), (3, .ref (zA G p2)), (4, .int (iI p3)), (5, .ref (zA G p4))] "LimbDeskModel" (by decide) rfl (Nat.le_of_ble_eq_true rfl) rfl ?_
  intro E hR hlE C hr hX
  subst hlE
  have hroom_m_compared : 0 + 1 ≤ (zR E).frames ∧ 8 + (5 + 11) + 0 ≤ (zR E).locals ∧ 0 + 0 ≤ (zR E).cells ∧ 0 + 0 ≤ (zR E).slots := by rw [hR]; decide
  have hroom_m_trim : 0 + 1 ≤ (zR E).frames ∧ 8 + (3 + 11) + 0 ≤ (zR E).locals ∧ 0 + 0 ≤ (zR E).cells ∧ 0 + 0 ≤ (zR E).slots := by rw [hR]; decide
  clear hR
  obtain ⟨Q, hQ⟩ : ∃ Q, Q = MQX G (zb E) 1 K (fun _ _ => False) (zs E) 0 0 0 0 := ⟨_, rfl⟩
  show Z E G 18 0 0 (MQX G (zb E) 1 K (fun _ _ => False) (zs E) 0 0 0 0) σ 0 [(0, .ref (zA G 45)), (1, .ref (zA G p0)), (2, .int (iI p1)), (3, .ref (zA G p2)), (4, .int (iI p3)), (5, .ref (zA G p4))] []
  rw [← hQ]
  refine z_aload_n C 1 d_m_divided_0 rfl ?_
  refine z_iload_n C 2 d_m_divided_1 rfl ?_
  refine z_aload_n C 3 d_m_divided_2 rfl ?_
  refine z_iload C 4 d_m_divided_3 rfl ?_
  refine z_callS C [.ref (zA G p0), .int (iI p1), .ref (zA G p2), .int (iI p3)] [] 4 d_m_divided_5 (c_m_compared (zl E) G h h_p0 h_p1 h_p2 h_p3) k_582 k_580 k_581 k_3 (by decide)  (by decide +kernel) rfl rfl (Nat.le_of_ble_eq_true rfl) hroom_m_compared (fun r1 _s194 ok2 hq => ?_) (fun _ _ hx => hx.elim)
  obtain ⟨hs_, hk_⟩ := hq
  subst hs_
  have h := hk_
  refine z_if_ge C d_m_divided_8 ok2 (fun hb3 => ?_) (fun hb3 => ?_)
  · have h := h.1 hb3
    refine z_iload C 4 d_m_divided_18 rfl ?_
    refine z_iconst C d_m_divided_20 ?_
    refine z_icmp_ne C d_m_divided_21 h_p3 (okI_lit rfl) (fun hb4 => ?_) (fun hb4 => ?_)
    · have h := h.1 hb4
      refine z_iconst C d_m_divided_105 ?_
      refine z_istore C [(6, .int (iI 0)), (0, .ref (zA G 45)), (1, .ref (zA G p0)), (2, .int (iI p1)), (3, .ref (zA G p2)), (4, .int (iI p3)), (5, .ref (zA G p4))] d_m_divided_106 (by decide) rfl ?_
      refine z_aload_n C 4 d_m_divided_108 rfl ?_
      refine z_iload C 5 d_m_divided_109 rfl ?_
      refine z_iconst C d_m_divided_111 ?_
      refine z_isub C d_m_divided_112 ?_
      obtain ⟨hc5, h⟩ := h
      refine z_ialdN C (ln p2) d_m_divided_113 h_p2 rfl hc5 ?_
      refine z_namei (fun v7_6 e7 => ?_)
      have h := h v7_6 e7
      refine z_istore C [(7, .int (iI v7_6)), (6, .int (iI 0)), (0, .ref (zA G 45)), (1, .ref (zA G p0)), (2, .int (iI p1)), (3, .ref (zA G p2)), (4, .int (iI p3)), (5, .ref (zA G p4))] d_m_divided_114 (by decide) rfl ?_
      obtain ⟨ok10, h⟩ := h
      refine z_sub [(0, .ref (zA G 45)), (1, .ref (zA G p0)), (2, .int (iI p1)), (3, .ref (zA G p2)), (4, .int (iI p3)), (5, .ref (zA G p4)), (6, .int (iI 0)), (7, .int (iI v7_6))] [2, 3, 4, 5, 6, 7, 1, 0] rfl ?_
      refine (Lq2.walk (P := fun v6_8 v7_9 => okI v6_8 → okI v7_9 → Z E G 18 0 0 Q σ 116 [(0, .ref (zA G 45)), (1, .ref (zA G p0)), (2, .int (iI p1)), (3, .ref (zA G p2)), (4, .int (iI p3)), (5, .ref (zA G p4)), (6, .int (iI v6_8)), (7, .int (iI v7_9))] []) ?_ h) (okI_lit rfl) ok10
      intro v6_8 v7_9 again13 Hagain13 h ok11 ok12
      refine z_iload C 7 d_m_divided_116 rfl ?_
      refine z_ldc C d_m_divided_118 k_594 (n := 32768) (by decide) ?_
      refine z_icmp_ge C d_m_divided_120 ok12 (okI_lit rfl) (fun hb14 => ?_) (fun hb14 => ?_)
      · have h := h.1 hb14
        refine z_iload C 4 d_m_divided_135 rfl ?_
        refine z_iconst C d_m_divided_137 ?_
        refine z_isub C d_m_divided_138 ?_
        refine z_namei (fun v7_15 e16 => ?_)
        have h := h v7_15 e16
        have ok17 : okI v7_15 := by rw [e16]; exact (okI_in hc5 (ln_pos _).2)
        refine z_istore C [(7, .int (iI v7_15)), (0, .ref (zA G 45)), (1, .ref (zA G p0)), (2, .int (iI p1)), (3, .ref (zA G p2)), (4, .int (iI p3)), (5, .ref (zA G p4)), (6, .int (iI v6_8))] d_m_divided_139 (by decide) rfl ?_
        refine z_sub [(0, .ref (zA G 45)), (1, .ref (zA G p0)), (2, .int (iI p1)), (3, .ref (zA G p2)), (4, .int (iI p3)), (5, .ref (zA G p4)), (6, .int (iI v6_8)), (7, .int (iI v7_15))] [1, 2, 3, 4, 5, 6, 7, 0] rfl ?_
        refine (Lo1.walk (P := fun v7_18 σ19 => okI v7_18 → Z E G 18 0 0 Q σ19 141 [(0, .ref (zA G 45)), (1, .ref (zA G p0)), (2, .int (iI p1)), (3, .ref (zA G p2)), (4, .int (iI p3)), (5, .ref (zA G p4)), (6, .int (iI v6_8)), (7, .int (iI v7_18))] []) ?_ h) ok17
        intro v7_18 σ19 again21 Hagain21 h ok20
        refine z_iload C 7 d_m_divided_141 rfl ?_
        refine z_if_lt C d_m_divided_143 ok20 (fun hb22 => ?_) (fun hb22 => ?_)
        · have h := h.1 hb22
          refine z_aload_n C 1 d_m_divided_191 rfl ?_
          refine z_iload_n C 2 d_m_divided_192 rfl ?_
          refine z_iconst C d_m_divided_193 ?_
          obtain ⟨hc23, h⟩ := h
          refine z_iastN C (ln p0) d_m_divided_194 h_p0 rfl hc23 ?_
          refine z_iload_n C 2 d_m_divided_195 rfl ?_
          refine z_istore C [(7, .int (iI p1)), (0, .ref (zA G 45)), (1, .ref (zA G p0)), (2, .int (iI p1)), (3, .ref (zA G p2)), (4, .int (iI p3)), (5, .ref (zA G p4)), (6, .int (iI v6_8))] d_m_divided_196 (by decide) rfl ?_
          refine z_sub [(0, .ref (zA G 45)), (1, .ref (zA G p0)), (2, .int (iI p1)), (4, .int (iI p3)), (5, .ref (zA G p4)), (6, .int (iI v6_8)), (7, .int (iI p1))] [1, 2, 3, 5, 6, 7, 0] rfl ?_
          refine (Lo1.walk (P := fun v7_24 σ25 => okI v7_24 → Z E G 18 0 0 Q σ25 198 [(0, .ref (zA G 45)), (1, .ref (zA G p0)), (2, .int (iI p1)), (4, .int (iI p3)), (5, .ref (zA G p4)), (6, .int (iI v6_8)), (7, .int (iI v7_24))] []) ?_ h) h_p1
          intro v7_24 σ25 again27 Hagain27 h ok26
          refine z_iload C 6 d_m_divided_198 rfl ?_
          refine z_if_lt C d_m_divided_200 ok26 (fun hb28 => ?_) (fun hb28 => ?_)
          · have h := h.1 hb28
            refine z_iload_n C 2 d_m_divided_245 rfl ?_
            refine z_iload C 3 d_m_divided_246 rfl ?_
            refine z_isub C d_m_divided_248 ?_
            refine z_namei (fun v7_29 e30 => ?_)
            have h := h v7_29 e30
            refine z_istore C [(7, .int (iI v7_29)), (0, .ref (zA G 45)), (1, .ref (zA G p0)), (2, .int (iI p1)), (4, .int (iI p3)), (5, .ref (zA G p4)), (6, .int (iI v6_8))] d_m_divided_249 (by decide) rfl ?_
            obtain ⟨ok32, h⟩ := h
            refine z_sub [(0, .ref (zA G 45)), (1, .ref (zA G p0)), (2, .int (iI p1)), (4, .int (iI p3)), (5, .ref (zA G p4)), (6, .int (iI v6_8)), (7, .int (iI v7_29))] [1, 2, 3, 4, 5, 6, 0] rfl ?_
            refine (Lo1.walk (P := fun v7_31 σ33 => okI v7_31 → Z E G 18 0 0 Q σ33 251 [(0, .ref (zA G 45)), (1, .ref (zA G p0)), (2, .int (iI p1)), (4, .int (iI p3)), (5, .ref (zA G p4)), (6, .int (iI v6_8)), (7, .int (iI v7_31))] []) ?_ h) ok32
            intro v7_31 σ33 again35 Hagain35 h ok34
            refine z_iload C 6 d_m_divided_251 rfl ?_
            refine z_if_lt C d_m_divided_253 ok34 (fun hb36 => ?_) (fun hb36 => ?_)
            · have h := h.1 hb36
              refine z_aload_n C 0 d_m_divided_582 rfl ?_
              refine z_aload C 4 d_m_divided_583 rfl ?_
              refine z_iload_n C 2 d_m_divided_585 rfl ?_
              refine z_iload C 3 d_m_divided_586 rfl ?_
              refine z_isub C d_m_divided_588 ?_
              refine z_iconst C d_m_divided_589 ?_
              refine z_iadd C d_m_divided_590 ?_
              obtain ⟨ok37, h⟩ := h
              refine z_callS C [.ref (zA G p4), .int (iI ((p1 - p3) + 1))] [.ref (zA G 45)] 2 d_m_divided_591 (c_m_trim (zl E) G h h_p4 ok37) k_545 k_543 k_544 k_3 (by decide)  (by decide +kernel) rfl rfl (Nat.le_of_ble_eq_true rfl) hroom_m_trim (fun r38 _s58 ok39 hq => ?_) (fun _ _ hx => hx.elim)
              obtain ⟨hs_, hk_⟩ := hq
              subst hs_
              have h := hk_
              refine z_mput_quotientSize C d_m_divided_594 k_472 ?_
              refine z_iconst C d_m_divided_597 ?_
              refine z_istore C [(7, .int (iI 0)), (0, .ref (zA G 45)), (1, .ref (zA G p0)), (2, .int (iI p1)), (4, .int (iI p3)), (5, .ref (zA G p4)), (6, .int (iI v6_8))] d_m_divided_598 (by decide) rfl ?_
              refine z_sub [(1, .ref (zA G p0)), (4, .int (iI p3)), (6, .int (iI v6_8)), (7, .int (iI 0))] [2, 4, 6, 0] rfl ?_
              refine (Lo1.walk (P := fun v7_40 σ41 => okI v7_40 → Z E G 18 0 0 Q σ41 600 [(1, .ref (zA G p0)), (4, .int (iI p3)), (6, .int (iI v6_8)), (7, .int (iI v7_40))] []) ?_ h) (okI_lit rfl)
              intro v7_40 σ41 again43 Hagain43 h ok42
              refine z_iload C 3 d_m_divided_600 rfl ?_
              refine z_iload C 1 d_m_divided_602 rfl ?_
              refine z_icmp_ge C d_m_divided_604 ok42 h_p3 (fun hb44 => ?_) (fun hb44 => ?_)
              · have h := h.1 hb44
                refine z_aload_n C 0 d_m_divided_653 rfl ?_
                refine z_iload C 1 d_m_divided_654 rfl ?_
                refine z_callS C [.ref (zA G p0), .int (iI p3)] [] 2 d_m_divided_656 (c_m_trim (zl E) G h h_p0 h_p3) k_545 k_543 k_544 k_3 (by decide)  (by decide +kernel) rfl rfl (Nat.le_of_ble_eq_true rfl) hroom_m_trim (fun r45 _s47 ok46 hq => ?_) (fun _ _ hx => hx.elim)
                obtain ⟨hs_, hk_⟩ := hq
                subst hs_
                have h := hk_
                subst hQ
                exact z_ireturn C d_m_divided_659.1 hr ⟨Nat.zero_le _, Nat.zero_le _⟩ ok46 h
              · have h := h.2 hb44
                refine z_aload_n C 0 d_m_divided_607 rfl ?_
                refine z_iload C 3 d_m_divided_608 rfl ?_
                refine z_aload_n C 0 d_m_divided_610 rfl ?_
                refine z_iload C 3 d_m_divided_611 rfl ?_
                obtain ⟨hc48, h⟩ := h
                refine z_ialdN C (ln p0) d_m_divided_613 h_p0 rfl hc48 ?_
                refine z_iload C 2 d_m_divided_614 rfl ?_
                obtain ⟨hc49, h⟩ := h
                obtain ⟨ok50, h⟩ := h
                refine z_ishr C d_m_divided_616 ok50 hc49 ?_
                refine z_iload C 3 d_m_divided_617 rfl ?_
                refine z_iconst C d_m_divided_619 ?_
                refine z_iadd C d_m_divided_620 ?_
                refine z_iload C 1 d_m_divided_621 rfl ?_
                obtain ⟨ok51, h⟩ := h
                obtain ⟨ha57, h⟩ := h
                have hj : ∀ s55 : Int, s55 = (if p3 < (v7_40 + 1) then 0 else ((σ41 p0 (v7_40 + 1)) * 2 ^ ((16 - v6_8)).toNat)) → Z E G 18 0 0 Q σ41 642 [(1, .ref (zA G p0)), (4, .int (iI p3)), (6, .int (iI v6_8)), (7, .int (iI v7_40))] [.int (iI s55), .int (iI ((σ41 p0 v7_40) / 2 ^ (v6_8).toNat)), .int (iI v7_40), .ref (zA G p0)] := by
                  intro s55 e56
                  have h := h s55 e56
                  refine z_ior C d_m_divided_642 ?_
                  refine z_ldc C d_m_divided_643 k_579 (n := 65535) (by decide) ?_
                  refine z_imask C 16 65536 d_m_divided_645 (by decide) (by decide) (by decide) ?_
                  refine z_iastN C (ln p0) d_m_divided_646 h_p0 rfl hc48 ?_
                  refine z_iinc C 3 [(7, .int (iI (v7_40 + 1))), (1, .ref (zA G p0)), (4, .int (iI p3)), (6, .int (iI v6_8))] d_m_divided_647 rfl (by decide) rfl ?_
                  refine z_goto C d_m_divided_650 ?_
                  refine z_sub [(1, .ref (zA G p0)), (4, .int (iI p3)), (6, .int (iI v6_8)), (7, .int (iI (v7_40 + 1)))] [1, 2, 3, 0] rfl ?_
                  exact Hagain43 _ _ h ok51
                clear h
                refine z_icmp_gt C d_m_divided_623 ok51 h_p3 (fun hb52 => ?_) (fun hb52 => ?_)
                · refine z_iconst C d_m_divided_641 ?_
                  exact hj _ (if_pos hb52).symm
                · have h := ha57 hb52
                  refine z_aload_n C 0 d_m_divided_626 rfl ?_
                  refine z_iload C 3 d_m_divided_627 rfl ?_
                  refine z_iconst C d_m_divided_629 ?_
                  refine z_iadd C d_m_divided_630 ?_
                  obtain ⟨hc53, h⟩ := h
                  refine z_ialdN C (ln p0) d_m_divided_631 h_p0 rfl hc53 ?_
                  refine z_bipush C d_m_divided_632 (by decide) ?_
                  refine z_iload C 2 d_m_divided_634 rfl ?_
                  refine z_isub C d_m_divided_636 ?_
                  obtain ⟨hc54, h⟩ := h
                  refine z_ishl C d_m_divided_637 hc54 ?_
                  refine z_goto C d_m_divided_638 ?_
                  exact hj _ (if_neg (Int.not_lt.mpr hb52)).symm
            · have h := h.2 hb36
              refine z_aload_n C 1 d_m_divided_256 rfl ?_
              refine z_iload C 6 d_m_divided_257 rfl ?_
              refine z_iload C 3 d_m_divided_259 rfl ?_
              refine z_iadd C d_m_divided_261 ?_
              obtain ⟨hc59, h⟩ := h
              refine z_ialdN C (ln p0) d_m_divided_262 h_p0 rfl hc59 ?_
              obtain ⟨ok60, h⟩ := h
              refine z_i2l C d_m_divided_263 ok60 ?_
              refine z_bipush C d_m_divided_264 (by decide) ?_
              refine z_lshlK C 65536 d_m_divided_266 (by decide) ⟨by decide, by decide⟩ ?_
              refine z_aload_n C 1 d_m_divided_267 rfl ?_
              refine z_iload C 6 d_m_divided_268 rfl ?_
              refine z_iload C 3 d_m_divided_270 rfl ?_
              refine z_iadd C d_m_divided_272 ?_
              refine z_iconst C d_m_divided_273 ?_
              refine z_isub C d_m_divided_274 ?_
              obtain ⟨hc61, h⟩ := h
              refine z_ialdN C (ln p0) d_m_divided_275 h_p0 rfl hc61 ?_
              obtain ⟨ok62, h⟩ := h
              refine z_i2l C d_m_divided_276 ok62 ?_
              refine z_lor C d_m_divided_277 ?_
              refine z_namel (fun v8_63 e64 => ?_)
              have h := h v8_63 e64
              have ok65 : okL v8_63 := by rw [e64]; exact (okL_or _ _)
              refine z_lstore C [(8, .long (lL v8_63)), (0, .ref (zA G 45)), (1, .ref (zA G p0)), (2, .int (iI p1)), (4, .int (iI p3)), (5, .ref (zA G p4)), (6, .int (iI v6_8)), (7, .int (iI v7_31))] d_m_divided_278 (by decide) rfl ?_
              refine z_lload C 0 d_m_divided_280 rfl ?_
              refine z_aload_n C 1 d_m_divided_282 rfl ?_
              refine z_mget C 13 d_m_divided_283 (by decide) k_473 rfl rfl ?_
              refine z_iload C 4 d_m_divided_286 rfl ?_
              refine z_iconst C d_m_divided_288 ?_
              refine z_isub C d_m_divided_289 ?_
              obtain ⟨hc66, h⟩ := h
              refine z_ialdN C (9000) d_m_divided_290 (Or.inr ⟨by decide, by decide⟩) (by decide) hc66 ?_
              obtain ⟨ok67, h⟩ := h
              refine z_i2l C d_m_divided_291 ok67 ?_
              obtain ⟨hc68, h⟩ := h
              obtain ⟨hc69, h⟩ := h
              refine z_ldiv C d_m_divided_292 hc68 hc69 ?_
              refine z_namel (fun v10_70 e71 => ?_)
              have h := h v10_70 e71
              refine z_lstore C [(10, .long (lL v10_70)), (8, .long (lL v8_63)), (0, .ref (zA G 45)), (1, .ref (zA G p0)), (2, .int (iI p1)), (4, .int (iI p3)), (5, .ref (zA G p4)), (6, .int (iI v6_8)), (7, .int (iI v7_31))] d_m_divided_293 (by decide) rfl ?_
              refine z_lload C 1 d_m_divided_295 rfl ?_
              refine z_aload_n C 2 d_m_divided_297 rfl ?_
              refine z_mget C 13 d_m_divided_298 (by decide) k_473 rfl rfl ?_
              refine z_iload C 5 d_m_divided_301 rfl ?_
              refine z_iconst C d_m_divided_303 ?_
              refine z_isub C d_m_divided_304 ?_
              refine z_ialdN C (9000) d_m_divided_305 (Or.inr ⟨by decide, by decide⟩) (by decide) hc66 ?_
              refine z_i2l C d_m_divided_306 ok67 ?_
              refine z_lrem C d_m_divided_307 hc68 hc69 ?_
              refine z_namel (fun v12_72 e73 => ?_)
              have h := h v12_72 e73
              refine z_lstore C [(12, .long (lL v12_72)), (10, .long (lL v10_70)), (8, .long (lL v8_63)), (0, .ref (zA G 45)), (1, .ref (zA G p0)), (2, .int (iI p1)), (4, .int (iI p3)), (5, .ref (zA G p4)), (6, .int (iI v6_8)), (7, .int (iI v7_31))] d_m_divided_308 (by decide) rfl ?_
              refine z_sub [(0, .ref (zA G 45)), (1, .ref (zA G p0)), (2, .int (iI p1)), (4, .int (iI p3)), (5, .ref (zA G p4)), (6, .int (iI v6_8)), (7, .int (iI v7_31)), (10, .long (lL v10_70)), (12, .long (lL v12_72))] [3, 4, 5, 6, 7, 8, 9, 1, 0] rfl ?_
              refine (Lq2.walk (P := fun v10_74 v12_75 => Z E G 18 0 0 Q σ33 310 [(0, .ref (zA G 45)), (1, .ref (zA G p0)), (2, .int (iI p1)), (4, .int (iI p3)), (5, .ref (zA G p4)), (6, .int (iI v6_8)), (7, .int (iI v7_31)), (10, .long (lL v10_74)), (12, .long (lL v12_75))] []) ?_ h)
              intro v10_74 v12_75 again76 Hagain76 h
              refine z_lload C 7 d_m_divided_310 rfl ?_
              refine z_ldc2 C d_m_divided_312 k_538 (n := 65535) (by decide) ?_
              obtain ⟨ok77, h⟩ := h
              refine Jq1.walk (fun v10_78 => Z E G 18 0 0 Q σ33 385 [(0, .ref (zA G 45)), (1, .ref (zA G p0)), (2, .int (iI p1)), (4, .int (iI p3)), (5, .ref (zA G p4)), (6, .int (iI v6_8)), (7, .int (iI v7_31)), (10, .long (lL v10_78))] []) h ?_ ?_
              · intro v10_78 h
                refine z_lconst C d_m_divided_385 ?_
                refine z_lstore C [(14, .long (lL 0)), (0, .ref (zA G 45)), (1, .ref (zA G p0)), (2, .int (iI p1)), (4, .int (iI p3)), (5, .ref (zA G p4)), (6, .int (iI v6_8)), (7, .int (iI v7_31)), (10, .long (lL v10_78))] d_m_divided_386 (by decide) rfl ?_
                refine z_iconst C d_m_divided_388 ?_
                refine z_istore C [(16, .int (iI 0)), (14, .long (lL 0)), (0, .ref (zA G 45)), (1, .ref (zA G p0)), (2, .int (iI p1)), (4, .int (iI p3)), (5, .ref (zA G p4)), (6, .int (iI v6_8)), (7, .int (iI v7_31)), (10, .long (lL v10_78))] d_m_divided_389 (by decide) rfl ?_
                refine z_sub [(0, .ref (zA G 45)), (1, .ref (zA G p0)), (2, .int (iI p1)), (4, .int (iI p3)), (5, .ref (zA G p4)), (6, .int (iI v6_8)), (7, .int (iI v7_31)), (10, .long (lL v10_78)), (14, .long (lL 0)), (16, .int (iI 0))] [2, 3, 4, 5, 6, 7, 8, 9, 1, 0] rfl ?_
                refine (Lo2.walk (P := fun v14_80 v16_81 σ82 => okI v16_81 → Z E G 18 0 0 Q σ82 391 [(0, .ref (zA G 45)), (1, .ref (zA G p0)), (2, .int (iI p1)), (4, .int (iI p3)), (5, .ref (zA G p4)), (6, .int (iI v6_8)), (7, .int (iI v7_31)), (10, .long (lL v10_78)), (14, .long (lL v14_80)), (16, .int (iI v16_81))] []) ?_ h) (okI_lit rfl)
                intro v14_80 v16_81 σ82 again84 Hagain84 h ok83
                refine z_iload C 9 d_m_divided_391 rfl ?_
                refine z_iload C 3 d_m_divided_393 rfl ?_
                refine z_icmp_ge C d_m_divided_395 ok83 h_p3 (fun hb85 => ?_) (fun hb85 => ?_)
                · have h := h.1 hb85
                  refine z_lload C 8 d_m_divided_450 rfl ?_
                  refine z_aload_n C 1 d_m_divided_452 rfl ?_
                  refine z_iload C 6 d_m_divided_453 rfl ?_
                  refine z_iload C 3 d_m_divided_455 rfl ?_
                  refine z_iadd C d_m_divided_457 ?_
                  refine z_ialdN C (ln p0) d_m_divided_458 h_p0 rfl hc59 ?_
                  obtain ⟨ok86, h⟩ := h
                  refine z_i2l C d_m_divided_459 ok86 ?_
                  refine z_ladd C d_m_divided_460 ?_
                  refine z_namel (fun v14_87 e88 => ?_)
                  have h := h v14_87 e88
                  refine z_lstore C [(14, .long (lL v14_87)), (0, .ref (zA G 45)), (1, .ref (zA G p0)), (2, .int (iI p1)), (4, .int (iI p3)), (5, .ref (zA G p4)), (6, .int (iI v6_8)), (7, .int (iI v7_31)), (10, .long (lL v10_78)), (16, .int (iI v16_81))] d_m_divided_461 (by decide) rfl ?_
                  refine z_aload_n C 2 d_m_divided_463 rfl ?_
                  refine z_iload C 7 d_m_divided_464 rfl ?_
                  refine z_iload C 4 d_m_divided_466 rfl ?_
                  refine z_iadd C d_m_divided_468 ?_
                  refine z_lload C 0 d_m_divided_469 rfl ?_
                  refine z_ldc2 C d_m_divided_471 k_538 (n := 65535) (by decide) ?_
                  refine z_lmask C 16 65536 d_m_divided_474 (by decide) (by decide) (by decide) ?_
                  refine z_l2i C d_m_divided_475 ?_
                  refine z_iastN C (ln p0) d_m_divided_476 h_p0 rfl hc59 ?_
                  refine z_lload C 0 d_m_divided_477 rfl ?_
                  refine z_lconst C d_m_divided_479 ?_
                  obtain ⟨ok89, h⟩ := h
                  refine Jo1.walk (fun v10_90 σ91 => Z E G 18 0 0 Q σ91 568 [(0, .ref (zA G 45)), (1, .ref (zA G p0)), (2, .int (iI p1)), (4, .int (iI p3)), (5, .ref (zA G p4)), (6, .int (iI v6_8)), (7, .int (iI v7_31)), (10, .long (lL v10_90))] []) h ?_ ?_
                  · intro v10_90 σ91 h
                    refine z_aload C 4 d_m_divided_568 rfl ?_
                    refine z_iload C 6 d_m_divided_570 rfl ?_
                    refine z_lload C 7 d_m_divided_572 rfl ?_
                    refine z_l2i C d_m_divided_574 ?_
                    obtain ⟨hc93, h⟩ := h
                    refine z_iastN C (ln p4) d_m_divided_575 h_p4 rfl hc93 ?_
                    refine z_iinc C 6 [(7, .int (iI (v7_31 + (-1)))), (0, .ref (zA G 45)), (1, .ref (zA G p0)), (2, .int (iI p1)), (4, .int (iI p3)), (5, .ref (zA G p4)), (6, .int (iI v6_8)), (10, .long (lL v10_90))] d_m_divided_576 rfl (by decide) rfl ?_
                    refine z_goto C d_m_divided_579 ?_
                    obtain ⟨ok94, h⟩ := h
                    refine z_sub [(0, .ref (zA G 45)), (1, .ref (zA G p0)), (2, .int (iI p1)), (4, .int (iI p3)), (5, .ref (zA G p4)), (6, .int (iI v6_8)), (7, .int (iI (v7_31 + (-1))))] [1, 2, 3, 4, 5, 6, 0] rfl ?_
                    exact Hagain35 _ _ h ok94
                  · intro J92 HJ92 h
                    refine z_lcmp_ge C d_m_divided_480 d_m_divided_481 ok89 (okL_lit rfl) (fun hb95 => ?_) (fun hb95 => ?_)
                    · have h := h.1 hb95
                      refine z_sub [(0, .ref (zA G 45)), (1, .ref (zA G p0)), (2, .int (iI p1)), (4, .int (iI p3)), (5, .ref (zA G p4)), (6, .int (iI v6_8)), (7, .int (iI v7_31)), (10, .long (lL v10_78))] [1, 2, 3, 4, 5, 6, 7, 8] rfl ?_
                      exact HJ92 _ _ h
                    · have h := h.2 hb95
                      refine z_lload C 8 d_m_divided_484 rfl ?_
                      refine z_lconst C d_m_divided_486 ?_
                      refine z_lsub C d_m_divided_487 ?_
                      refine z_namel (fun v10_96 e97 => ?_)
                      have h := h v10_96 e97
                      refine z_lstore C [(10, .long (lL v10_96)), (14, .long (lL v14_87)), (0, .ref (zA G 45)), (1, .ref (zA G p0)), (2, .int (iI p1)), (4, .int (iI p3)), (5, .ref (zA G p4)), (6, .int (iI v6_8)), (7, .int (iI v7_31)), (16, .int (iI v16_81))] d_m_divided_488 (by decide) rfl ?_
                      refine z_iconst C d_m_divided_490 ?_
                      refine z_istore C [(16, .int (iI 0)), (10, .long (lL v10_96)), (14, .long (lL v14_87)), (0, .ref (zA G 45)), (1, .ref (zA G p0)), (2, .int (iI p1)), (4, .int (iI p3)), (5, .ref (zA G p4)), (6, .int (iI v6_8)), (7, .int (iI v7_31))] d_m_divided_491 (by decide) rfl ?_
                      refine z_iconst C d_m_divided_493 ?_
                      refine z_istore C [(17, .int (iI 0)), (16, .int (iI 0)), (10, .long (lL v10_96)), (14, .long (lL v14_87)), (0, .ref (zA G 45)), (1, .ref (zA G p0)), (2, .int (iI p1)), (4, .int (iI p3)), (5, .ref (zA G p4)), (6, .int (iI v6_8)), (7, .int (iI v7_31))] d_m_divided_494 (by decide) rfl ?_
                      refine z_sub [(0, .ref (zA G 45)), (1, .ref (zA G p0)), (2, .int (iI p1)), (4, .int (iI p3)), (5, .ref (zA G p4)), (6, .int (iI v6_8)), (7, .int (iI v7_31)), (10, .long (lL v10_96)), (16, .int (iI 0)), (17, .int (iI 0))] [4, 5, 6, 7, 8, 9, 10, 2, 1, 0] rfl ?_
                      refine (Lo2.walk (P := fun v16_98 v17_99 σ100 => okI v16_98 → okI v17_99 → Z E G 18 0 0 Q σ100 496 [(0, .ref (zA G 45)), (1, .ref (zA G p0)), (2, .int (iI p1)), (4, .int (iI p3)), (5, .ref (zA G p4)), (6, .int (iI v6_8)), (7, .int (iI v7_31)), (10, .long (lL v10_96)), (16, .int (iI v16_98)), (17, .int (iI v17_99))] []) ?_ h) (okI_lit rfl) (okI_lit rfl)
                      intro v16_98 v17_99 σ100 again103 Hagain103 h ok101 ok102
                      refine z_iload C 9 d_m_divided_496 rfl ?_
                      refine z_iload C 3 d_m_divided_498 rfl ?_
                      refine z_icmp_ge C d_m_divided_500 ok102 h_p3 (fun hb104 => ?_) (fun hb104 => ?_)
                      · have h := h.1 hb104
                        refine z_aload_n C 1 d_m_divided_548 rfl ?_
                        refine z_iload C 6 d_m_divided_549 rfl ?_
                        refine z_iload C 3 d_m_divided_551 rfl ?_
                        refine z_iadd C d_m_divided_553 ?_
                        refine z_aload_n C 1 d_m_divided_554 rfl ?_
                        refine z_iload C 6 d_m_divided_555 rfl ?_
                        refine z_iload C 3 d_m_divided_557 rfl ?_
                        refine z_iadd C d_m_divided_559 ?_
                        refine z_ialdN C (ln p0) d_m_divided_560 h_p0 rfl hc59 ?_
                        refine z_iload C 8 d_m_divided_561 rfl ?_
                        refine z_iadd C d_m_divided_563 ?_
                        refine z_ldc C d_m_divided_564 k_579 (n := 65535) (by decide) ?_
                        refine z_imask C 16 65536 d_m_divided_566 (by decide) (by decide) (by decide) ?_
                        refine z_iastN C (ln p0) d_m_divided_567 h_p0 rfl hc59 ?_
                        refine z_sub [(0, .ref (zA G 45)), (1, .ref (zA G p0)), (2, .int (iI p1)), (4, .int (iI p3)), (5, .ref (zA G p4)), (6, .int (iI v6_8)), (7, .int (iI v7_31)), (10, .long (lL v10_96))] [0, 1, 2, 3, 4, 5, 6, 7] rfl ?_
                        exact HJ92 _ _ h
                      · have h := h.2 hb104
                        refine z_iload C 8 d_m_divided_503 rfl ?_
                        refine z_aload_n C 1 d_m_divided_505 rfl ?_
                        refine z_iload C 6 d_m_divided_506 rfl ?_
                        refine z_iload C 9 d_m_divided_508 rfl ?_
                        refine z_iadd C d_m_divided_510 ?_
                        obtain ⟨hc105, h⟩ := h
                        refine z_ialdN C (ln p0) d_m_divided_511 h_p0 rfl hc105 ?_
                        refine z_aload_n C 0 d_m_divided_512 rfl ?_
                        refine z_mget C 13 d_m_divided_513 (by decide) k_473 rfl rfl ?_
                        refine z_iload C 9 d_m_divided_516 rfl ?_
                        obtain ⟨hc106, h⟩ := h
                        refine z_ialdN C (9000) d_m_divided_518 (Or.inr ⟨by decide, by decide⟩) (by decide) hc106 ?_
                        refine z_iadd C d_m_divided_519 ?_
                        refine z_iadd C d_m_divided_520 ?_
                        refine z_namei (fun v16_107 e108 => ?_)
                        have h := h v16_107 e108
                        refine z_istore C [(16, .int (iI v16_107)), (0, .ref (zA G 45)), (1, .ref (zA G p0)), (2, .int (iI p1)), (4, .int (iI p3)), (5, .ref (zA G p4)), (6, .int (iI v6_8)), (7, .int (iI v7_31)), (10, .long (lL v10_96)), (17, .int (iI v17_99))] d_m_divided_521 (by decide) rfl ?_
                        refine z_aload_n C 2 d_m_divided_523 rfl ?_
                        refine z_iload C 7 d_m_divided_524 rfl ?_
                        refine z_iload C 9 d_m_divided_526 rfl ?_
                        refine z_iadd C d_m_divided_528 ?_
                        refine z_iload C 0 d_m_divided_529 rfl ?_
                        refine z_ldc C d_m_divided_531 k_579 (n := 65535) (by decide) ?_
                        refine z_imask C 16 65536 d_m_divided_533 (by decide) (by decide) (by decide) ?_
                        refine z_iastN C (ln p0) d_m_divided_534 h_p0 rfl hc105 ?_
                        refine z_iload C 0 d_m_divided_535 rfl ?_
                        refine z_bipush C d_m_divided_537 (by decide) ?_
                        obtain ⟨ok109, h⟩ := h
                        refine z_ishrK C 65536 d_m_divided_539 (by decide) ok109 ⟨by decide, by decide⟩ ?_
                        refine z_namei (fun v16_110 e111 => ?_)
                        have h := h v16_110 e111
                        refine z_istore C [(16, .int (iI v16_110)), (0, .ref (zA G 45)), (1, .ref (zA G p0)), (2, .int (iI p1)), (4, .int (iI p3)), (5, .ref (zA G p4)), (6, .int (iI v6_8)), (7, .int (iI v7_31)), (10, .long (lL v10_96)), (17, .int (iI v17_99))] d_m_divided_540 (by decide) rfl ?_
                        refine z_iinc C 9 [(17, .int (iI (v17_99 + 1))), (16, .int (iI v16_110)), (0, .ref (zA G 45)), (1, .ref (zA G p0)), (2, .int (iI p1)), (4, .int (iI p3)), (5, .ref (zA G p4)), (6, .int (iI v6_8)), (7, .int (iI v7_31)), (10, .long (lL v10_96))] d_m_divided_542 rfl (by decide) rfl ?_
                        refine z_goto C d_m_divided_545 ?_
                        obtain ⟨ok112, h⟩ := h
                        obtain ⟨ok113, h⟩ := h
                        refine z_sub [(0, .ref (zA G 45)), (1, .ref (zA G p0)), (2, .int (iI p1)), (4, .int (iI p3)), (5, .ref (zA G p4)), (6, .int (iI v6_8)), (7, .int (iI v7_31)), (10, .long (lL v10_96)), (16, .int (iI v16_110)), (17, .int (iI (v17_99 + 1)))] [2, 3, 4, 5, 6, 7, 8, 9, 1, 0] rfl ?_
                        exact Hagain103 _ _ _ h ok112 ok113
                · have h := h.2 hb85
                  refine z_lload C 8 d_m_divided_398 rfl ?_
                  refine z_aload_n C 1 d_m_divided_400 rfl ?_
                  refine z_iload C 6 d_m_divided_401 rfl ?_
                  refine z_iload C 9 d_m_divided_403 rfl ?_
                  refine z_iadd C d_m_divided_405 ?_
                  obtain ⟨hc114, h⟩ := h
                  refine z_ialdN C (ln p0) d_m_divided_406 h_p0 rfl hc114 ?_
                  obtain ⟨ok115, h⟩ := h
                  refine z_i2l C d_m_divided_407 ok115 ?_
                  refine z_lload C 7 d_m_divided_408 rfl ?_
                  refine z_aload_n C 0 d_m_divided_410 rfl ?_
                  refine z_mget C 13 d_m_divided_411 (by decide) k_473 rfl rfl ?_
                  refine z_iload C 9 d_m_divided_414 rfl ?_
                  obtain ⟨hc116, h⟩ := h
                  refine z_ialdN C (9000) d_m_divided_416 (Or.inr ⟨by decide, by decide⟩) (by decide) hc116 ?_
                  obtain ⟨ok117, h⟩ := h
                  refine z_i2l C d_m_divided_417 ok117 ?_
                  refine z_lmul C d_m_divided_418 ?_
                  refine z_lsub C d_m_divided_419 ?_
                  refine z_ladd C d_m_divided_420 ?_
                  refine z_namel (fun v14_118 e119 => ?_)
                  have h := h v14_118 e119
                  refine z_lstore C [(14, .long (lL v14_118)), (0, .ref (zA G 45)), (1, .ref (zA G p0)), (2, .int (iI p1)), (4, .int (iI p3)), (5, .ref (zA G p4)), (6, .int (iI v6_8)), (7, .int (iI v7_31)), (10, .long (lL v10_78)), (16, .int (iI v16_81))] d_m_divided_421 (by decide) rfl ?_
                  refine z_aload_n C 2 d_m_divided_423 rfl ?_
                  refine z_iload C 7 d_m_divided_424 rfl ?_
                  refine z_iload C 9 d_m_divided_426 rfl ?_
                  refine z_iadd C d_m_divided_428 ?_
                  refine z_lload C 0 d_m_divided_429 rfl ?_
                  refine z_ldc2 C d_m_divided_431 k_538 (n := 65535) (by decide) ?_
                  refine z_lmask C 16 65536 d_m_divided_434 (by decide) (by decide) (by decide) ?_
                  refine z_l2i C d_m_divided_435 ?_
                  refine z_iastN C (ln p0) d_m_divided_436 h_p0 rfl hc114 ?_
                  refine z_lload C 0 d_m_divided_437 rfl ?_
                  refine z_bipush C d_m_divided_439 (by decide) ?_
                  obtain ⟨ok120, h⟩ := h
                  refine z_lshrK C 65536 d_m_divided_441 (by decide) ok120 ⟨by decide, by decide⟩ ?_
                  refine z_namel (fun v14_121 e122 => ?_)
                  have h := h v14_121 e122
                  refine z_lstore C [(14, .long (lL v14_121)), (0, .ref (zA G 45)), (1, .ref (zA G p0)), (2, .int (iI p1)), (4, .int (iI p3)), (5, .ref (zA G p4)), (6, .int (iI v6_8)), (7, .int (iI v7_31)), (10, .long (lL v10_78)), (16, .int (iI v16_81))] d_m_divided_442 (by decide) rfl ?_
                  refine z_iinc C 9 [(16, .int (iI (v16_81 + 1))), (14, .long (lL v14_121)), (0, .ref (zA G 45)), (1, .ref (zA G p0)), (2, .int (iI p1)), (4, .int (iI p3)), (5, .ref (zA G p4)), (6, .int (iI v6_8)), (7, .int (iI v7_31)), (10, .long (lL v10_78))] d_m_divided_444 rfl (by decide) rfl ?_
                  refine z_goto C d_m_divided_447 ?_
                  obtain ⟨ok123, h⟩ := h
                  refine z_sub [(0, .ref (zA G 45)), (1, .ref (zA G p0)), (2, .int (iI p1)), (4, .int (iI p3)), (5, .ref (zA G p4)), (6, .int (iI v6_8)), (7, .int (iI v7_31)), (10, .long (lL v10_78)), (14, .long (lL v14_121)), (16, .int (iI (v16_81 + 1)))] [2, 3, 4, 5, 6, 7, 8, 9, 1, 0] rfl ?_
                  exact Hagain84 _ _ _ h ok123
              · intro J79 HJ79 h
                refine Jq0.walk (Z E G 18 0 0 Q σ33 352 [(0, .ref (zA G 45)), (1, .ref (zA G p0)), (2, .int (iI p1)), (4, .int (iI p3)), (5, .ref (zA G p4)), (6, .int (iI v6_8)), (7, .int (iI v7_31)), (10, .long (lL v10_74)), (12, .long (lL v12_75))] []) h ?_ ?_
                · intro h
                  refine z_lload C 7 d_m_divided_352 rfl ?_
                  refine z_lconst C d_m_divided_354 ?_
                  refine z_lsub C d_m_divided_355 ?_
                  refine z_namel (fun v10_125 e126 => ?_)
                  have h := h v10_125 e126
                  refine z_lstore C [(10, .long (lL v10_125)), (0, .ref (zA G 45)), (1, .ref (zA G p0)), (2, .int (iI p1)), (4, .int (iI p3)), (5, .ref (zA G p4)), (6, .int (iI v6_8)), (7, .int (iI v7_31)), (12, .long (lL v12_75))] d_m_divided_356 (by decide) rfl ?_
                  refine z_lload C 8 d_m_divided_358 rfl ?_
                  refine z_aload_n C 1 d_m_divided_360 rfl ?_
                  refine z_mget C 13 d_m_divided_361 (by decide) k_473 rfl rfl ?_
                  refine z_iload C 4 d_m_divided_364 rfl ?_
                  refine z_iconst C d_m_divided_366 ?_
                  refine z_isub C d_m_divided_367 ?_
                  refine z_ialdN C (9000) d_m_divided_368 (Or.inr ⟨by decide, by decide⟩) (by decide) hc66 ?_
                  refine z_i2l C d_m_divided_369 ok67 ?_
                  refine z_ladd C d_m_divided_370 ?_
                  refine z_namel (fun v12_127 e128 => ?_)
                  have h := h v12_127 e128
                  refine z_lstore C [(12, .long (lL v12_127)), (10, .long (lL v10_125)), (0, .ref (zA G 45)), (1, .ref (zA G p0)), (2, .int (iI p1)), (4, .int (iI p3)), (5, .ref (zA G p4)), (6, .int (iI v6_8)), (7, .int (iI v7_31))] d_m_divided_371 (by decide) rfl ?_
                  refine z_lload C 0 d_m_divided_373 rfl ?_
                  refine z_ldc2 C d_m_divided_375 k_538 (n := 65535) (by decide) ?_
                  obtain ⟨ok129, h⟩ := h
                  refine z_lcmp_le C d_m_divided_378 d_m_divided_379 ok129 (okL_lit rfl) (fun hb130 => ?_) (fun hb130 => ?_)
                  · have h := h.1 hb130
                    refine z_sub [(0, .ref (zA G 45)), (1, .ref (zA G p0)), (2, .int (iI p1)), (4, .int (iI p3)), (5, .ref (zA G p4)), (6, .int (iI v6_8)), (7, .int (iI v7_31)), (10, .long (lL v10_125)), (12, .long (lL v12_127))] [2, 3, 4, 5, 6, 7, 8, 1, 0] rfl ?_
                    exact Hagain76 _ _ h
                  · have h := h.2 hb130
                    refine z_goto C d_m_divided_382 ?_
                    refine z_sub [(0, .ref (zA G 45)), (1, .ref (zA G p0)), (2, .int (iI p1)), (4, .int (iI p3)), (5, .ref (zA G p4)), (6, .int (iI v6_8)), (7, .int (iI v7_31)), (10, .long (lL v10_125))] [2, 3, 4, 5, 6, 7, 8, 1] rfl ?_
                    exact HJ79 _ h
                · intro J124 HJ124 h
                  refine z_lcmp_gt C d_m_divided_315 d_m_divided_316 ok77 (okL_lit rfl) (fun hb131 => ?_) (fun hb131 => ?_)
                  · have h := h.1 hb131
                    refine z_sub [(0, .ref (zA G 45)), (1, .ref (zA G p0)), (2, .int (iI p1)), (4, .int (iI p3)), (5, .ref (zA G p4)), (6, .int (iI v6_8)), (7, .int (iI v7_31)), (10, .long (lL v10_74)), (12, .long (lL v12_75))] [0, 1, 2, 3, 4, 5, 6, 7, 8] rfl ?_
                    exact HJ124 h
                  · have h := h.2 hb131
                    refine z_lload C 7 d_m_divided_319 rfl ?_
                    refine z_aload_n C 0 d_m_divided_321 rfl ?_
                    refine z_mget C 13 d_m_divided_322 (by decide) k_473 rfl rfl ?_
                    refine z_iload C 3 d_m_divided_325 rfl ?_
                    refine z_iconst C d_m_divided_327 ?_
                    refine z_isub C d_m_divided_328 ?_
                    obtain ⟨hc132, h⟩ := h
                    refine z_ialdN C (9000) d_m_divided_329 (Or.inr ⟨by decide, by decide⟩) (by decide) hc132 ?_
                    obtain ⟨ok133, h⟩ := h
                    refine z_i2l C d_m_divided_330 ok133 ?_
                    refine z_lmul C d_m_divided_331 ?_
                    refine z_lload C 8 d_m_divided_332 rfl ?_
                    refine z_bipush C d_m_divided_334 (by decide) ?_
                    refine z_lshlK C 65536 d_m_divided_336 (by decide) ⟨by decide, by decide⟩ ?_
                    refine z_aload_n C 1 d_m_divided_337 rfl ?_
                    refine z_iload C 6 d_m_divided_338 rfl ?_
                    refine z_iload C 3 d_m_divided_340 rfl ?_
                    refine z_iadd C d_m_divided_342 ?_
                    refine z_iconst C d_m_divided_343 ?_
                    refine z_isub C d_m_divided_344 ?_
                    obtain ⟨hc134, h⟩ := h
                    refine z_ialdN C (ln p0) d_m_divided_345 h_p0 rfl hc134 ?_
                    obtain ⟨ok135, h⟩ := h
                    refine z_i2l C d_m_divided_346 ok135 ?_
                    refine z_lor C d_m_divided_347 ?_
                    obtain ⟨ok136, h⟩ := h
                    refine z_lcmp_le C d_m_divided_348 d_m_divided_349 ok136 (okL_or _ _) (fun hb137 => ?_) (fun hb137 => ?_)
                    · have h := h.1 hb137
                      refine z_sub [(0, .ref (zA G 45)), (1, .ref (zA G p0)), (2, .int (iI p1)), (4, .int (iI p3)), (5, .ref (zA G p4)), (6, .int (iI v6_8)), (7, .int (iI v7_31)), (10, .long (lL v10_74))] [0, 1, 2, 3, 4, 5, 6, 7] rfl ?_
                      exact HJ79 _ h
                    · have h := h.2 hb137
                      refine z_sub [(0, .ref (zA G 45)), (1, .ref (zA G p0)), (2, .int (iI p1)), (4, .int (iI p3)), (5, .ref (zA G p4)), (6, .int (iI v6_8)), (7, .int (iI v7_31)), (10, .long (lL v10_74)), (12, .long (lL v12_75))] [0, 1, 2, 3, 4, 5, 6, 7, 8] rfl ?_
                      exact HJ124 h
          · have h := h.2 hb28
            refine z_aload_n C 1 d_m_divided_203 rfl ?_
            refine z_iload C 6 d_m_divided_204 rfl ?_
            refine z_aload_n C 1 d_m_divided_206 rfl ?_
            refine z_iload C 6 d_m_divided_207 rfl ?_
            obtain ⟨hc138, h⟩ := h
            refine z_ialdN C (ln p0) d_m_divided_209 h_p0 rfl hc138 ?_
            refine z_iload C 5 d_m_divided_210 rfl ?_
            obtain ⟨hc139, h⟩ := h
            refine z_ishl C d_m_divided_212 hc139 ?_
            refine z_iload C 6 d_m_divided_213 rfl ?_
            obtain ⟨ha146, h⟩ := h
            have hj : ∀ s144 : Int, s144 = (if v7_24 ≤ 0 then 0 else ((σ25 p0 (v7_24 - 1)) / 2 ^ ((16 - v6_8)).toNat)) → Z E G 18 0 0 Q σ25 234 [(0, .ref (zA G 45)), (1, .ref (zA G p0)), (2, .int (iI p1)), (4, .int (iI p3)), (5, .ref (zA G p4)), (6, .int (iI v6_8)), (7, .int (iI v7_24))] [.int (iI s144), .int (iI ((σ25 p0 v7_24) * 2 ^ (v6_8).toNat)), .int (iI v7_24), .ref (zA G p0)] := by
              intro s144 e145
              have h := h s144 e145
              refine z_ior C d_m_divided_234 ?_
              refine z_ldc C d_m_divided_235 k_579 (n := 65535) (by decide) ?_
              refine z_imask C 16 65536 d_m_divided_237 (by decide) (by decide) (by decide) ?_
              refine z_iastN C (ln p0) d_m_divided_238 h_p0 rfl hc138 ?_
              refine z_iinc C 6 [(7, .int (iI (v7_24 + (-1)))), (0, .ref (zA G 45)), (1, .ref (zA G p0)), (2, .int (iI p1)), (4, .int (iI p3)), (5, .ref (zA G p4)), (6, .int (iI v6_8))] d_m_divided_239 rfl (by decide) rfl ?_
              refine z_goto C d_m_divided_242 ?_
              obtain ⟨ok147, h⟩ := h
              refine z_sub [(0, .ref (zA G 45)), (1, .ref (zA G p0)), (2, .int (iI p1)), (4, .int (iI p3)), (5, .ref (zA G p4)), (6, .int (iI v6_8)), (7, .int (iI (v7_24 + (-1))))] [1, 2, 3, 4, 5, 6, 0] rfl ?_
              exact Hagain27 _ _ h ok147
            clear h
            refine z_if_le C d_m_divided_215 ok26 (fun hb140 => ?_) (fun hb140 => ?_)
            · refine z_iconst C d_m_divided_233 ?_
              exact hj _ (if_pos hb140).symm
            · have h := ha146 hb140
              refine z_aload_n C 1 d_m_divided_218 rfl ?_
              refine z_iload C 6 d_m_divided_219 rfl ?_
              refine z_iconst C d_m_divided_221 ?_
              refine z_isub C d_m_divided_222 ?_
              obtain ⟨hc141, h⟩ := h
              refine z_ialdN C (ln p0) d_m_divided_223 h_p0 rfl hc141 ?_
              refine z_bipush C d_m_divided_224 (by decide) ?_
              refine z_iload C 5 d_m_divided_226 rfl ?_
              refine z_isub C d_m_divided_228 ?_
              obtain ⟨hc142, h⟩ := h
              obtain ⟨ok143, h⟩ := h
              refine z_ishr C d_m_divided_229 ok143 hc142 ?_
              refine z_goto C d_m_divided_230 ?_
              exact hj _ (if_neg (Int.not_le.mpr hb140)).symm
        · have h := h.2 hb22
          refine z_aload_n C 0 d_m_divided_146 rfl ?_
          refine z_mget C 13 d_m_divided_147 (by decide) k_473 rfl rfl ?_
          refine z_iload C 7 d_m_divided_150 rfl ?_
          refine z_aload_n C 3 d_m_divided_152 rfl ?_
          refine z_iload C 7 d_m_divided_153 rfl ?_
          obtain ⟨hc148, h⟩ := h
          refine z_ialdN C (ln p2) d_m_divided_155 h_p2 rfl hc148 ?_
          refine z_iload C 6 d_m_divided_156 rfl ?_
          obtain ⟨hc149, h⟩ := h
          refine z_ishl C d_m_divided_158 hc149 ?_
          refine z_iload C 7 d_m_divided_159 rfl ?_
          obtain ⟨ha156, h⟩ := h
          have hj : ∀ s154 : Int, s154 = (if v7_18 ≤ 0 then 0 else ((σ19 p2 (v7_18 - 1)) / 2 ^ ((16 - v6_8)).toNat)) → Z E G 18 0 0 Q σ19 180 [(0, .ref (zA G 45)), (1, .ref (zA G p0)), (2, .int (iI p1)), (3, .ref (zA G p2)), (4, .int (iI p3)), (5, .ref (zA G p4)), (6, .int (iI v6_8)), (7, .int (iI v7_18))] [.int (iI s154), .int (iI ((σ19 p2 v7_18) * 2 ^ (v6_8).toNat)), .int (iI v7_18), .ref (zA G 56)] := by
            intro s154 e155
            have h := h s154 e155
            refine z_ior C d_m_divided_180 ?_
            refine z_ldc C d_m_divided_181 k_579 (n := 65535) (by decide) ?_
            refine z_imask C 16 65536 d_m_divided_183 (by decide) (by decide) (by decide) ?_
            obtain ⟨hc157, h⟩ := h
            refine z_iastN C (9000) d_m_divided_184 (Or.inr ⟨by decide, by decide⟩) (by decide) hc157 ?_
            refine z_iinc C 7 [(7, .int (iI (v7_18 + (-1)))), (0, .ref (zA G 45)), (1, .ref (zA G p0)), (2, .int (iI p1)), (3, .ref (zA G p2)), (4, .int (iI p3)), (5, .ref (zA G p4)), (6, .int (iI v6_8))] d_m_divided_185 rfl (by decide) rfl ?_
            refine z_goto C d_m_divided_188 ?_
            obtain ⟨ok158, h⟩ := h
            refine z_sub [(0, .ref (zA G 45)), (1, .ref (zA G p0)), (2, .int (iI p1)), (3, .ref (zA G p2)), (4, .int (iI p3)), (5, .ref (zA G p4)), (6, .int (iI v6_8)), (7, .int (iI (v7_18 + (-1))))] [1, 2, 3, 4, 5, 6, 7, 0] rfl ?_
            exact Hagain21 _ _ h ok158
          clear h
          refine z_if_le C d_m_divided_161 ok20 (fun hb150 => ?_) (fun hb150 => ?_)
          · refine z_iconst C d_m_divided_179 ?_
            exact hj _ (if_pos hb150).symm
          · have h := ha156 hb150
            refine z_aload_n C 3 d_m_divided_164 rfl ?_
            refine z_iload C 7 d_m_divided_165 rfl ?_
            refine z_iconst C d_m_divided_167 ?_
            refine z_isub C d_m_divided_168 ?_
            obtain ⟨hc151, h⟩ := h
            refine z_ialdN C (ln p2) d_m_divided_169 h_p2 rfl hc151 ?_
            refine z_bipush C d_m_divided_170 (by decide) ?_
            refine z_iload C 6 d_m_divided_172 rfl ?_
            refine z_isub C d_m_divided_174 ?_
            obtain ⟨hc152, h⟩ := h
            obtain ⟨ok153, h⟩ := h
            refine z_ishr C d_m_divided_175 ok153 hc152 ?_
            refine z_goto C d_m_divided_176 ?_
            exact hj _ (if_neg (Int.not_le.mpr hb150)).symm
      · have h := h.2 hb14
        refine z_iinc C 6 [(6, .int (iI (v6_8 + 1))), (0, .ref (zA G 45)), (1, .ref (zA G p0)), (2, .int (iI p1)), (3, .ref (zA G p2)), (4, .int (iI p3)), (5, .ref (zA G p4)), (7, .int (iI v7_9))] d_m_divided_123 rfl (by decide) rfl ?_
        refine z_iload C 7 d_m_divided_126 rfl ?_
        refine z_iconst C d_m_divided_128 ?_
        refine z_ishlK C 2 d_m_divided_129 (by decide) ⟨by decide, by decide⟩ ?_
        refine z_namei (fun v7_159 e160 => ?_)
        have h := h v7_159 e160
        refine z_istore C [(7, .int (iI v7_159)), (6, .int (iI (v6_8 + 1))), (0, .ref (zA G 45)), (1, .ref (zA G p0)), (2, .int (iI p1)), (3, .ref (zA G p2)), (4, .int (iI p3)), (5, .ref (zA G p4))] d_m_divided_130 (by decide) rfl ?_
        refine z_goto C d_m_divided_132 ?_
        obtain ⟨ok161, h⟩ := h
        obtain ⟨ok162, h⟩ := h
        refine z_sub [(0, .ref (zA G 45)), (1, .ref (zA G p0)), (2, .int (iI p1)), (3, .ref (zA G p2)), (4, .int (iI p3)), (5, .ref (zA G p4)), (6, .int (iI (v6_8 + 1))), (7, .int (iI v7_159))] [2, 3, 4, 5, 6, 7, 1, 0] rfl ?_
        exact Hagain13 _ _ h ok161 ok162
    · have h := h.2 hb4
      refine z_lconst C d_m_divided_24 ?_
      refine z_lstore C [(6, .long (lL 0)), (0, .ref (zA G 45)), (1, .ref (zA G p0)), (2, .int (iI p1)), (3, .ref (zA G p2)), (4, .int (iI p3)), (5, .ref (zA G p4))] d_m_divided_25 (by decide) rfl ?_
      refine z_iload_n C 3 d_m_divided_27 rfl ?_
      refine z_iconst C d_m_divided_28 ?_
      refine z_isub C d_m_divided_29 ?_
      refine z_namei (fun v8_163 e164 => ?_)
      have h := h v8_163 e164
      refine z_istore C [(8, .int (iI v8_163)), (6, .long (lL 0)), (0, .ref (zA G 45)), (1, .ref (zA G p0)), (2, .int (iI p1)), (3, .ref (zA G p2)), (4, .int (iI p3)), (5, .ref (zA G p4))] d_m_divided_30 (by decide) rfl ?_
      obtain ⟨ok167, h⟩ := h
      refine z_sub [(0, .ref (zA G 45)), (1, .ref (zA G p0)), (2, .int (iI p1)), (3, .ref (zA G p2)), (5, .ref (zA G p4)), (6, .long (lL 0)), (8, .int (iI v8_163))] [2, 3, 4, 5, 7, 1, 0] rfl ?_
      refine (Lo2.walk (P := fun v6_165 v8_166 σ168 => okI v8_166 → Z E G 18 0 0 Q σ168 32 [(0, .ref (zA G 45)), (1, .ref (zA G p0)), (2, .int (iI p1)), (3, .ref (zA G p2)), (5, .ref (zA G p4)), (6, .long (lL v6_165)), (8, .int (iI v8_166))] []) ?_ h) ok167
      intro v6_165 v8_166 σ168 again170 Hagain170 h ok169
      refine z_iload C 6 d_m_divided_32 rfl ?_
      refine z_if_lt C d_m_divided_34 ok169 (fun hb171 => ?_) (fun hb171 => ?_)
      · have h := h.1 hb171
        refine z_aload_n C 0 d_m_divided_83 rfl ?_
        refine z_aload C 4 d_m_divided_84 rfl ?_
        refine z_iload_n C 2 d_m_divided_86 rfl ?_
        refine z_callS C [.ref (zA G p4), .int (iI p1)] [.ref (zA G 45)] 2 d_m_divided_87 (c_m_trim (zl E) G h h_p4 h_p1) k_545 k_543 k_544 k_3 (by decide)  (by decide +kernel) rfl rfl (Nat.le_of_ble_eq_true rfl) hroom_m_trim (fun r172 _s178 ok173 hq => ?_) (fun _ _ hx => hx.elim)
        obtain ⟨hs_, hk_⟩ := hq
        subst hs_
        have h := hk_
        refine z_mput_quotientSize C d_m_divided_90 k_472 ?_
        refine z_aload_n C 1 d_m_divided_93 rfl ?_
        refine z_iconst C d_m_divided_94 ?_
        refine z_lload C 5 d_m_divided_95 rfl ?_
        refine z_l2i C d_m_divided_97 ?_
        obtain ⟨hc174, h⟩ := h
        refine z_iastN C (ln p0) d_m_divided_98 h_p0 rfl hc174 ?_
        refine z_aload_n C 1 d_m_divided_99 rfl ?_
        refine z_iconst C d_m_divided_100 ?_
        refine z_callS C [.ref (zA G p0), .int (iI 1)] [] 2 d_m_divided_101 (c_m_trim (zl E) G h h_p0 (okI_lit rfl)) k_545 k_543 k_544 k_3 (by decide)  (by decide +kernel) rfl rfl (Nat.le_of_ble_eq_true rfl) hroom_m_trim (fun r175 _s177 ok176 hq => ?_) (fun _ _ hx => hx.elim)
        obtain ⟨hs_, hk_⟩ := hq
        subst hs_
        have h := hk_
        subst hQ
        exact z_ireturn C d_m_divided_104.1 hr ⟨Nat.zero_le _, Nat.zero_le _⟩ ok176 h
      · have h := h.2 hb171
        refine z_lload C 5 d_m_divided_37 rfl ?_
        refine z_bipush C d_m_divided_39 (by decide) ?_
        refine z_lshlK C 65536 d_m_divided_41 (by decide) ⟨by decide, by decide⟩ ?_
        refine z_aload_n C 1 d_m_divided_42 rfl ?_
        refine z_iload C 6 d_m_divided_43 rfl ?_
        obtain ⟨hc179, h⟩ := h
        refine z_ialdN C (ln p0) d_m_divided_45 h_p0 rfl hc179 ?_
        obtain ⟨ok180, h⟩ := h
        refine z_i2l C d_m_divided_46 ok180 ?_
        refine z_lor C d_m_divided_47 ?_
        refine z_namel (fun v6_181 e182 => ?_)
        have h := h v6_181 e182
        have ok183 : okL v6_181 := by rw [e182]; exact (okL_or _ _)
        refine z_lstore C [(6, .long (lL v6_181)), (0, .ref (zA G 45)), (1, .ref (zA G p0)), (2, .int (iI p1)), (3, .ref (zA G p2)), (5, .ref (zA G p4)), (8, .int (iI v8_166))] d_m_divided_48 (by decide) rfl ?_
        refine z_aload C 5 d_m_divided_50 rfl ?_
        refine z_iload C 6 d_m_divided_52 rfl ?_
        refine z_lload C 0 d_m_divided_54 rfl ?_
        refine z_aload_n C 4 d_m_divided_56 rfl ?_
        refine z_iconst C d_m_divided_57 ?_
        obtain ⟨hc184, h⟩ := h
        refine z_ialdN C (ln p2) d_m_divided_58 h_p2 rfl hc184 ?_
        obtain ⟨ok185, h⟩ := h
        refine z_i2l C d_m_divided_59 ok185 ?_
        obtain ⟨hc186, h⟩ := h
        obtain ⟨hc187, h⟩ := h
        refine z_ldiv C d_m_divided_60 hc186 hc187 ?_
        refine z_l2i C d_m_divided_61 ?_
        obtain ⟨hc188, h⟩ := h
        refine z_iastN C (ln p4) d_m_divided_62 h_p4 rfl hc188 ?_
        refine z_lload C 0 d_m_divided_63 rfl ?_
        refine z_aload_n C 4 d_m_divided_65 rfl ?_
        refine z_iconst C d_m_divided_66 ?_
        refine z_ialdN C (ln p2) d_m_divided_67 h_p2 rfl hc184 ?_
        obtain ⟨ok189, h⟩ := h
        refine z_i2l C d_m_divided_68 ok189 ?_
        obtain ⟨hc190, h⟩ := h
        refine z_lrem C d_m_divided_69 hc186 hc190 ?_
        refine z_namel (fun v6_191 e192 => ?_)
        have h := h v6_191 e192
        refine z_lstore C [(6, .long (lL v6_191)), (0, .ref (zA G 45)), (1, .ref (zA G p0)), (2, .int (iI p1)), (3, .ref (zA G p2)), (5, .ref (zA G p4)), (8, .int (iI v8_166))] d_m_divided_70 (by decide) rfl ?_
        refine z_aload_n C 2 d_m_divided_72 rfl ?_
        refine z_iload C 6 d_m_divided_73 rfl ?_
        refine z_iconst C d_m_divided_75 ?_
        refine z_iastN C (ln p0) d_m_divided_76 h_p0 rfl hc179 ?_
        refine z_iinc C 6 [(8, .int (iI (v8_166 + (-1)))), (6, .long (lL v6_191)), (0, .ref (zA G 45)), (1, .ref (zA G p0)), (2, .int (iI p1)), (3, .ref (zA G p2)), (5, .ref (zA G p4))] d_m_divided_77 rfl (by decide) rfl ?_
        refine z_goto C d_m_divided_80 ?_
        obtain ⟨ok193, h⟩ := h
        refine z_sub [(0, .ref (zA G 45)), (1, .ref (zA G p0)), (2, .int (iI p1)), (3, .ref (zA G p2)), (5, .ref (zA G p4)), (6, .long (lL v6_191)), (8, .int (iI (v8_166 + (-1))))] [2, 3, 4, 5, 6, 1, 0] rfl ?_
        exact Hagain170 _ _ _ h ok193
  · have h := h.2 hb3
    refine z_aload_n C 0 d_m_divided_11 rfl ?_
    refine z_iconst C d_m_divided_12 ?_
    refine z_mput_quotientSize C d_m_divided_13 k_472 ?_
    refine z_iload_n C 2 d_m_divided_16 rfl ?_
    subst hQ
    exact z_ireturn C d_m_divided_17.1 hr ⟨Nat.zero_le _, Nat.zero_le _⟩ h_p1 h
theorem d_m_shiftedLeft_0 : DD b_m_shiftedLeft 0 (.iload_n 2) 1 1 := ⟨by decide +kernel, rfl⟩
theorem d_m_shiftedLeft_1 : DD b_m_shiftedLeft 1 (.iconst 4) 1 2 := ⟨by decide +kernel, rfl⟩
theorem d_m_shiftedLeft_2 : DD b_m_shiftedLeft 2 .ishr 1 3 := ⟨by decide +kernel, rfl⟩
theorem d_m_shiftedLeft_3 : DD b_m_shiftedLeft 3 (.istore 4) 2 5 := ⟨by decide +kernel, rfl⟩
theorem d_m_shiftedLeft_5 : DD b_m_shiftedLeft 5 (.iload_n 2) 1 6 := ⟨by decide +kernel, rfl⟩
theorem d_m_shiftedLeft_6 : DD b_m_shiftedLeft 6 (.bipush 15) 2 8 := ⟨by decide +kernel, rfl⟩
theorem d_m_shiftedLeft_8 : DD b_m_shiftedLeft 8 .iand 1 9 := ⟨by decide +kernel, rfl⟩
theorem d_m_shiftedLeft_9 : DD b_m_shiftedLeft 9 (.istore 5) 2 11 := ⟨by decide +kernel, rfl⟩
theorem d_m_shiftedLeft_11 : DD b_m_shiftedLeft 11 (.aload_n 3) 1 12 := ⟨by decide +kernel, rfl⟩
theorem d_m_shiftedLeft_12 : DD b_m_shiftedLeft 12 (.iload_n 1) 1 13 := ⟨by decide +kernel, rfl⟩
theorem d_m_shiftedLeft_13 : DD b_m_shiftedLeft 13 (.iload 4) 2 15 := ⟨by decide +kernel, rfl⟩
theorem d_m_shiftedLeft_15 : DD b_m_shiftedLeft 15 .iadd 1 16 := ⟨by decide +kernel, rfl⟩
theorem d_m_shiftedLeft_16 : DD b_m_shiftedLeft 16 (.iconst 0) 1 17 := ⟨by decide +kernel, rfl⟩
theorem d_m_shiftedLeft_17 : DD b_m_shiftedLeft 17 .iastore 1 18 := ⟨by decide +kernel, rfl⟩
theorem d_m_shiftedLeft_18 : DD b_m_shiftedLeft 18 (.iload_n 1) 1 19 := ⟨by decide +kernel, rfl⟩
theorem d_m_shiftedLeft_19 : DD b_m_shiftedLeft 19 (.istore 6) 2 21 := ⟨by decide +kernel, rfl⟩
theorem d_m_shiftedLeft_21 : DD b_m_shiftedLeft 21 (.iload 6) 2 23 := ⟨by decide +kernel, rfl⟩
theorem d_m_shiftedLeft_23 : DB b_m_shiftedLeft 23 (.ifCond .lt 58) 58 26 81 := ⟨by decide +kernel, rfl, rfl⟩
theorem d_m_shiftedLeft_26 : DD b_m_shiftedLeft 26 (.aload_n 3) 1 27 := ⟨by decide +kernel, rfl⟩
theorem d_m_shiftedLeft_27 : DD b_m_shiftedLeft 27 (.iload 6) 2 29 := ⟨by decide +kernel, rfl⟩
theorem d_m_shiftedLeft_29 : DD b_m_shiftedLeft 29 (.iload 4) 2 31 := ⟨by decide +kernel, rfl⟩
theorem d_m_shiftedLeft_31 : DD b_m_shiftedLeft 31 .iadd 1 32 := ⟨by decide +kernel, rfl⟩
theorem d_m_shiftedLeft_32 : DD b_m_shiftedLeft 32 (.iload 6) 2 34 := ⟨by decide +kernel, rfl⟩
theorem d_m_shiftedLeft_34 : DD b_m_shiftedLeft 34 (.iload_n 1) 1 35 := ⟨by decide +kernel, rfl⟩
theorem d_m_shiftedLeft_35 : DB b_m_shiftedLeft 35 (.if_icmp .ge 13) 13 38 48 := ⟨by decide +kernel, rfl, rfl⟩
theorem d_m_shiftedLeft_38 : DD b_m_shiftedLeft 38 (.aload_n 0) 1 39 := ⟨by decide +kernel, rfl⟩
theorem d_m_shiftedLeft_39 : DD b_m_shiftedLeft 39 (.iload 6) 2 41 := ⟨by decide +kernel, rfl⟩
theorem d_m_shiftedLeft_41 : DD b_m_shiftedLeft 41 .iaload 1 42 := ⟨by decide +kernel, rfl⟩
theorem d_m_shiftedLeft_42 : DD b_m_shiftedLeft 42 (.iload 5) 2 44 := ⟨by decide +kernel, rfl⟩
theorem d_m_shiftedLeft_44 : DD b_m_shiftedLeft 44 .ishl 1 45 := ⟨by decide +kernel, rfl⟩
theorem d_m_shiftedLeft_45 : DB b_m_shiftedLeft 45 (.goto 4) 4 48 49 := ⟨by decide +kernel, rfl, rfl⟩
theorem d_m_shiftedLeft_48 : DD b_m_shiftedLeft 48 (.iconst 0) 1 49 := ⟨by decide +kernel, rfl⟩
theorem d_m_shiftedLeft_49 : DD b_m_shiftedLeft 49 (.iload 6) 2 51 := ⟨by decide +kernel, rfl⟩
theorem d_m_shiftedLeft_51 : DB b_m_shiftedLeft 51 (.ifCond .le 18) 18 54 69 := ⟨by decide +kernel, rfl, rfl⟩
theorem d_m_shiftedLeft_54 : DD b_m_shiftedLeft 54 (.aload_n 0) 1 55 := ⟨by decide +kernel, rfl⟩
theorem d_m_shiftedLeft_55 : DD b_m_shiftedLeft 55 (.iload 6) 2 57 := ⟨by decide +kernel, rfl⟩
theorem d_m_shiftedLeft_57 : DD b_m_shiftedLeft 57 (.iconst 1) 1 58 := ⟨by decide +kernel, rfl⟩
theorem d_m_shiftedLeft_58 : DD b_m_shiftedLeft 58 .isub 1 59 := ⟨by decide +kernel, rfl⟩
theorem d_m_shiftedLeft_59 : DD b_m_shiftedLeft 59 .iaload 1 60 := ⟨by decide +kernel, rfl⟩
theorem d_m_shiftedLeft_60 : DD b_m_shiftedLeft 60 (.bipush 16) 2 62 := ⟨by decide +kernel, rfl⟩
theorem d_m_shiftedLeft_62 : DD b_m_shiftedLeft 62 (.iload 5) 2 64 := ⟨by decide +kernel, rfl⟩
theorem d_m_shiftedLeft_64 : DD b_m_shiftedLeft 64 .isub 1 65 := ⟨by decide +kernel, rfl⟩
theorem d_m_shiftedLeft_65 : DD b_m_shiftedLeft 65 .ishr 1 66 := ⟨by decide +kernel, rfl⟩
theorem d_m_shiftedLeft_66 : DB b_m_shiftedLeft 66 (.goto 4) 4 69 70 := ⟨by decide +kernel, rfl, rfl⟩
theorem d_m_shiftedLeft_69 : DD b_m_shiftedLeft 69 (.iconst 0) 1 70 := ⟨by decide +kernel, rfl⟩
theorem d_m_shiftedLeft_70 : DD b_m_shiftedLeft 70 .ior 1 71 := ⟨by decide +kernel, rfl⟩
theorem d_m_shiftedLeft_71 : DD b_m_shiftedLeft 71 (.ldc 53) 2 73 := ⟨by decide +kernel, rfl⟩
theorem d_m_shiftedLeft_73 : DD b_m_shiftedLeft 73 .iand 1 74 := ⟨by decide +kernel, rfl⟩
theorem d_m_shiftedLeft_74 : DD b_m_shiftedLeft 74 .iastore 1 75 := ⟨by decide +kernel, rfl⟩
theorem d_m_shiftedLeft_75 : DD b_m_shiftedLeft 75 (.iinc 6 (-1)) 3 78 := ⟨by decide +kernel, rfl⟩
theorem d_m_shiftedLeft_78 : DB b_m_shiftedLeft 78 (.goto (-57)) (-57) 81 21 := ⟨by decide +kernel, rfl, rfl⟩
theorem d_m_shiftedLeft_81 : DD b_m_shiftedLeft 81 (.iconst 0) 1 82 := ⟨by decide +kernel, rfl⟩
theorem d_m_shiftedLeft_82 : DD b_m_shiftedLeft 82 (.istore 6) 2 84 := ⟨by decide +kernel, rfl⟩
theorem d_m_shiftedLeft_84 : DD b_m_shiftedLeft 84 (.iload 6) 2 86 := ⟨by decide +kernel, rfl⟩
theorem d_m_shiftedLeft_86 : DD b_m_shiftedLeft 86 (.iload 4) 2 88 := ⟨by decide +kernel, rfl⟩
theorem d_m_shiftedLeft_88 : DB b_m_shiftedLeft 88 (.if_icmp .ge 14) 14 91 102 := ⟨by decide +kernel, rfl, rfl⟩
theorem d_m_shiftedLeft_91 : DD b_m_shiftedLeft 91 (.aload_n 3) 1 92 := ⟨by decide +kernel, rfl⟩
theorem d_m_shiftedLeft_92 : DD b_m_shiftedLeft 92 (.iload 6) 2 94 := ⟨by decide +kernel, rfl⟩
theorem d_m_shiftedLeft_94 : DD b_m_shiftedLeft 94 (.iconst 0) 1 95 := ⟨by decide +kernel, rfl⟩
theorem d_m_shiftedLeft_95 : DD b_m_shiftedLeft 95 .iastore 1 96 := ⟨by decide +kernel, rfl⟩
theorem d_m_shiftedLeft_96 : DD b_m_shiftedLeft 96 (.iinc 6 1) 3 99 := ⟨by decide +kernel, rfl⟩
theorem d_m_shiftedLeft_99 : DB b_m_shiftedLeft 99 (.goto (-15)) (-15) 102 84 := ⟨by decide +kernel, rfl, rfl⟩
theorem d_m_shiftedLeft_102 : DD b_m_shiftedLeft 102 (.aload_n 3) 1 103 := ⟨by decide +kernel, rfl⟩
theorem d_m_shiftedLeft_103 : DD b_m_shiftedLeft 103 (.iload_n 1) 1 104 := ⟨by decide +kernel, rfl⟩
theorem d_m_shiftedLeft_104 : DD b_m_shiftedLeft 104 (.iload 4) 2 106 := ⟨by decide +kernel, rfl⟩
theorem d_m_shiftedLeft_106 : DD b_m_shiftedLeft 106 .iadd 1 107 := ⟨by decide +kernel, rfl⟩
theorem d_m_shiftedLeft_107 : DD b_m_shiftedLeft 107 (.iconst 1) 1 108 := ⟨by decide +kernel, rfl⟩
theorem d_m_shiftedLeft_108 : DD b_m_shiftedLeft 108 .iadd 1 109 := ⟨by decide +kernel, rfl⟩
theorem d_m_shiftedLeft_109 : DD b_m_shiftedLeft 109 (.invokestatic 54) 3 112 := ⟨by decide +kernel, rfl⟩
theorem d_m_shiftedLeft_112 : DD b_m_shiftedLeft 112 .ireturn 1 113 := ⟨by decide +kernel, rfl⟩
set_option maxRecDepth 20000 in
set_option maxHeartbeats 4000000 in
theorem c_m_shiftedLeft (l : Launch) (G : ZG) {p0 p1 p2 p3 : Int} {σ : Mem} {K : Int → Mem → Prop} (h : wp_m_shiftedLeft p0 p1 p2 p3 σ K) (h_p0 : isA p0) (h_p1 : okI p1) (h_p2 : okI p2) (h_p3 : isA p3) : Ct l G y_m_shiftedLeft (.code y_m_shiftedLeft b_m_shiftedLeft 7 (some .int)) { frames := 1, cells := 0, slots := 0, locals := 22 } 0 0 1 [.ref (zA G p0), .int (iI p1), .int (iI p2), .ref (zA G p3)] σ K (fun _ _ => False) := by
  unfold wp_m_shiftedLeft at h
  refine Ct.ofZ [(0, .ref (zA G p0)), (1, .int (iI p1)), (2, .int (iI p2)), (3, .ref (zA G p3))] "LimbDeskModel" (by decide) rfl (Nat.le_of_ble_eq_true rfl) rfl ?_
  intro E hR hlE C hr hX
  subst hlE
  have hroom_m_trim : 0 + 1 ≤ (zR E).frames ∧ 8 + (3 + 11) + 0 ≤ (zR E).locals ∧ 0 + 0 ≤ (zR E).cells ∧ 0 + 0 ≤ (zR E).slots := by rw [hR]; decide
  clear hR
  obtain ⟨Q, hQ⟩ : ∃ Q, Q = MQX G (zb E) 1 K (fun _ _ => False) (zs E) 0 0 0 0 := ⟨_, rfl⟩
  show Z E G 7 0 0 (MQX G (zb E) 1 K (fun _ _ => False) (zs E) 0 0 0 0) σ 0 [(0, .ref (zA G p0)), (1, .int (iI p1)), (2, .int (iI p2)), (3, .ref (zA G p3))] []
  rw [← hQ]
  refine z_iload_n C 2 d_m_shiftedLeft_0 rfl ?_
  refine z_iconst C d_m_shiftedLeft_1 ?_
  refine z_ishrK C 16 d_m_shiftedLeft_2 (by decide) h_p2 ⟨by decide, by decide⟩ ?_
  refine z_namei (fun v4_1 e2 => ?_)
  have h := h v4_1 e2
  refine z_istore C [(4, .int (iI v4_1)), (0, .ref (zA G p0)), (1, .int (iI p1)), (2, .int (iI p2)), (3, .ref (zA G p3))] d_m_shiftedLeft_3 (by decide) rfl ?_
  refine z_iload_n C 3 d_m_shiftedLeft_5 rfl ?_
  refine z_bipush C d_m_shiftedLeft_6 (by decide) ?_
  refine z_imask C 4 16 d_m_shiftedLeft_8 (by decide) (by decide) (by decide) ?_
  refine z_namei (fun v5_3 e4 => ?_)
  have h := h v5_3 e4
  have ok5 : okI v5_3 := by rw [e4]; exact (okI_mod (by decide) (by decide))
  refine z_istore C [(5, .int (iI v5_3)), (4, .int (iI v4_1)), (0, .ref (zA G p0)), (1, .int (iI p1)), (2, .int (iI p2)), (3, .ref (zA G p3))] d_m_shiftedLeft_9 (by decide) rfl ?_
  refine z_aload_n C 5 d_m_shiftedLeft_11 rfl ?_
  refine z_iload_n C 3 d_m_shiftedLeft_12 rfl ?_
  refine z_iload C 1 d_m_shiftedLeft_13 rfl ?_
  refine z_iadd C d_m_shiftedLeft_15 ?_
  refine z_iconst C d_m_shiftedLeft_16 ?_
  obtain ⟨hc6, h⟩ := h
  refine z_iastN C (ln p3) d_m_shiftedLeft_17 h_p3 rfl hc6 ?_
  refine z_iload_n C 3 d_m_shiftedLeft_18 rfl ?_
  refine z_istore C [(6, .int (iI p1)), (5, .int (iI v5_3)), (4, .int (iI v4_1)), (0, .ref (zA G p0)), (1, .int (iI p1)), (2, .int (iI p2)), (3, .ref (zA G p3))] d_m_shiftedLeft_19 (by decide) rfl ?_
  refine z_sub [(0, .ref (zA G p0)), (1, .int (iI p1)), (3, .ref (zA G p3)), (4, .int (iI v4_1)), (5, .int (iI v5_3)), (6, .int (iI p1))] [3, 4, 6, 2, 1, 0] rfl ?_
  refine (Lo1.walk (P := fun v6_7 σ8 => okI v6_7 → Z E G 7 0 0 Q σ8 21 [(0, .ref (zA G p0)), (1, .int (iI p1)), (3, .ref (zA G p3)), (4, .int (iI v4_1)), (5, .int (iI v5_3)), (6, .int (iI v6_7))] []) ?_ h) h_p1
  intro v6_7 σ8 again10 Hagain10 h ok9
  refine z_iload C 5 d_m_shiftedLeft_21 rfl ?_
  refine z_if_lt C d_m_shiftedLeft_23 ok9 (fun hb11 => ?_) (fun hb11 => ?_)
  · have h := h.1 hb11
    refine z_iconst C d_m_shiftedLeft_81 ?_
    refine z_istore C [(6, .int (iI 0)), (0, .ref (zA G p0)), (1, .int (iI p1)), (3, .ref (zA G p3)), (4, .int (iI v4_1)), (5, .int (iI v5_3))] d_m_shiftedLeft_82 (by decide) rfl ?_
    refine z_sub [(1, .int (iI p1)), (3, .ref (zA G p3)), (4, .int (iI v4_1)), (6, .int (iI 0))] [2, 3, 4, 0] rfl ?_
    refine (Lo1.walk (P := fun v6_12 σ13 => okI v6_12 → Z E G 7 0 0 Q σ13 84 [(1, .int (iI p1)), (3, .ref (zA G p3)), (4, .int (iI v4_1)), (6, .int (iI v6_12))] []) ?_ h) (okI_lit rfl)
    intro v6_12 σ13 again15 Hagain15 h ok14
    refine z_iload C 3 d_m_shiftedLeft_84 rfl ?_
    refine z_iload C 2 d_m_shiftedLeft_86 rfl ?_
    obtain ⟨ok16, h⟩ := h
    refine z_icmp_ge C d_m_shiftedLeft_88 ok14 ok16 (fun hb17 => ?_) (fun hb17 => ?_)
    · have h := h.1 hb17
      refine z_aload_n C 1 d_m_shiftedLeft_102 rfl ?_
      refine z_iload_n C 0 d_m_shiftedLeft_103 rfl ?_
      refine z_iload C 2 d_m_shiftedLeft_104 rfl ?_
      refine z_iadd C d_m_shiftedLeft_106 ?_
      refine z_iconst C d_m_shiftedLeft_107 ?_
      refine z_iadd C d_m_shiftedLeft_108 ?_
      obtain ⟨ok18, h⟩ := h
      refine z_callS C [.ref (zA G p3), .int (iI ((p1 + v4_1) + 1))] [] 2 d_m_shiftedLeft_109 (c_m_trim (zl E) G h h_p3 ok18) k_545 k_543 k_544 k_3 (by decide)  (by decide +kernel) rfl rfl (Nat.le_of_ble_eq_true rfl) hroom_m_trim (fun r19 _s21 ok20 hq => ?_) (fun _ _ hx => hx.elim)
      obtain ⟨hs_, hk_⟩ := hq
      subst hs_
      have h := hk_
      subst hQ
      exact z_ireturn C d_m_shiftedLeft_112.1 hr ⟨Nat.zero_le _, Nat.zero_le _⟩ ok20 h
    · have h := h.2 hb17
      refine z_aload_n C 1 d_m_shiftedLeft_91 rfl ?_
      refine z_iload C 3 d_m_shiftedLeft_92 rfl ?_
      refine z_iconst C d_m_shiftedLeft_94 ?_
      obtain ⟨hc22, h⟩ := h
      refine z_iastN C (ln p3) d_m_shiftedLeft_95 h_p3 rfl hc22 ?_
      refine z_iinc C 3 [(6, .int (iI (v6_12 + 1))), (1, .int (iI p1)), (3, .ref (zA G p3)), (4, .int (iI v4_1))] d_m_shiftedLeft_96 rfl (by decide) rfl ?_
      refine z_goto C d_m_shiftedLeft_99 ?_
      obtain ⟨ok23, h⟩ := h
      refine z_sub [(1, .int (iI p1)), (3, .ref (zA G p3)), (4, .int (iI v4_1)), (6, .int (iI (v6_12 + 1)))] [1, 2, 3, 0] rfl ?_
      exact Hagain15 _ _ h ok23
  · have h := h.2 hb11
    refine z_aload_n C 2 d_m_shiftedLeft_26 rfl ?_
    refine z_iload C 5 d_m_shiftedLeft_27 rfl ?_
    refine z_iload C 3 d_m_shiftedLeft_29 rfl ?_
    refine z_iadd C d_m_shiftedLeft_31 ?_
    refine z_iload C 5 d_m_shiftedLeft_32 rfl ?_
    refine z_iload_n C 1 d_m_shiftedLeft_34 rfl ?_
    obtain ⟨ha29, h⟩ := h
    have hj : ∀ s27 : Int, s27 = (if p1 ≤ v6_7 then 0 else ((σ8 p0 v6_7) * 2 ^ (v5_3).toNat)) → Z E G 7 0 0 Q σ8 49 [(0, .ref (zA G p0)), (1, .int (iI p1)), (3, .ref (zA G p3)), (4, .int (iI v4_1)), (5, .int (iI v5_3)), (6, .int (iI v6_7))] [.int (iI s27), .int (iI (v6_7 + v4_1)), .ref (zA G p3)] := by
      intro s27 e28
      have h := h s27 e28
      refine z_iload C 5 d_m_shiftedLeft_49 rfl ?_
      obtain ⟨ha36, h⟩ := h
      have hj : ∀ s34 : Int, s34 = (if v6_7 ≤ 0 then 0 else ((σ8 p0 (v6_7 - 1)) / 2 ^ ((16 - v5_3)).toNat)) → Z E G 7 0 0 Q σ8 70 [(0, .ref (zA G p0)), (1, .int (iI p1)), (3, .ref (zA G p3)), (4, .int (iI v4_1)), (5, .int (iI v5_3)), (6, .int (iI v6_7))] [.int (iI s34), .int (iI s27), .int (iI (v6_7 + v4_1)), .ref (zA G p3)] := by
        intro s34 e35
        have h := h s34 e35
        refine z_ior C d_m_shiftedLeft_70 ?_
        refine z_ldc C d_m_shiftedLeft_71 k_579 (n := 65535) (by decide) ?_
        refine z_imask C 16 65536 d_m_shiftedLeft_73 (by decide) (by decide) (by decide) ?_
        obtain ⟨hc37, h⟩ := h
        refine z_iastN C (ln p3) d_m_shiftedLeft_74 h_p3 rfl hc37 ?_
        refine z_iinc C 5 [(6, .int (iI (v6_7 + (-1)))), (0, .ref (zA G p0)), (1, .int (iI p1)), (3, .ref (zA G p3)), (4, .int (iI v4_1)), (5, .int (iI v5_3))] d_m_shiftedLeft_75 rfl (by decide) rfl ?_
        refine z_goto C d_m_shiftedLeft_78 ?_
        obtain ⟨ok38, h⟩ := h
        refine z_sub [(0, .ref (zA G p0)), (1, .int (iI p1)), (3, .ref (zA G p3)), (4, .int (iI v4_1)), (5, .int (iI v5_3)), (6, .int (iI (v6_7 + (-1))))] [1, 2, 3, 4, 5, 0] rfl ?_
        exact Hagain10 _ _ h ok38
      clear h
      refine z_if_le C d_m_shiftedLeft_51 ok9 (fun hb30 => ?_) (fun hb30 => ?_)
      · refine z_iconst C d_m_shiftedLeft_69 ?_
        exact hj _ (if_pos hb30).symm
      · have h := ha36 hb30
        refine z_aload_n C 0 d_m_shiftedLeft_54 rfl ?_
        refine z_iload C 5 d_m_shiftedLeft_55 rfl ?_
        refine z_iconst C d_m_shiftedLeft_57 ?_
        refine z_isub C d_m_shiftedLeft_58 ?_
        obtain ⟨hc31, h⟩ := h
        refine z_ialdN C (ln p0) d_m_shiftedLeft_59 h_p0 rfl hc31 ?_
        refine z_bipush C d_m_shiftedLeft_60 (by decide) ?_
        refine z_iload C 4 d_m_shiftedLeft_62 rfl ?_
        refine z_isub C d_m_shiftedLeft_64 ?_
        obtain ⟨hc32, h⟩ := h
        obtain ⟨ok33, h⟩ := h
        refine z_ishr C d_m_shiftedLeft_65 ok33 hc32 ?_
        refine z_goto C d_m_shiftedLeft_66 ?_
        exact hj _ (if_neg (Int.not_le.mpr hb30)).symm
    clear h
    refine z_icmp_ge C d_m_shiftedLeft_35 ok9 h_p1 (fun hb24 => ?_) (fun hb24 => ?_)
    · refine z_iconst C d_m_shiftedLeft_48 ?_
      exact hj _ (if_pos hb24).symm
    · have h := ha29 hb24
      refine z_aload_n C 0 d_m_shiftedLeft_38 rfl ?_
      refine z_iload C 5 d_m_shiftedLeft_39 rfl ?_
      obtain ⟨hc25, h⟩ := h
      refine z_ialdN C (ln p0) d_m_shiftedLeft_41 h_p0 rfl hc25 ?_
      refine z_iload C 4 d_m_shiftedLeft_42 rfl ?_
      obtain ⟨hc26, h⟩ := h
      refine z_ishl C d_m_shiftedLeft_44 hc26 ?_
      refine z_goto C d_m_shiftedLeft_45 ?_
      exact hj _ (if_neg (Int.not_le.mpr hb24)).symm
theorem d_m_isBit_0 : DD b_m_isBit 0 (.iload_n 2) 1 1 := ⟨by decide +kernel, rfl⟩
theorem d_m_isBit_1 : DB b_m_isBit 1 (.ifCond .lt 29) 29 4 30 := ⟨by decide +kernel, rfl, rfl⟩
theorem d_m_isBit_4 : DD b_m_isBit 4 (.iload_n 2) 1 5 := ⟨by decide +kernel, rfl⟩
theorem d_m_isBit_5 : DD b_m_isBit 5 (.iconst 4) 1 6 := ⟨by decide +kernel, rfl⟩
theorem d_m_isBit_6 : DD b_m_isBit 6 .ishr 1 7 := ⟨by decide +kernel, rfl⟩
theorem d_m_isBit_7 : DD b_m_isBit 7 (.iload_n 1) 1 8 := ⟨by decide +kernel, rfl⟩
theorem d_m_isBit_8 : DB b_m_isBit 8 (.if_icmp .ge 22) 22 11 30 := ⟨by decide +kernel, rfl, rfl⟩
theorem d_m_isBit_11 : DD b_m_isBit 11 (.aload_n 0) 1 12 := ⟨by decide +kernel, rfl⟩
theorem d_m_isBit_12 : DD b_m_isBit 12 (.iload_n 2) 1 13 := ⟨by decide +kernel, rfl⟩
theorem d_m_isBit_13 : DD b_m_isBit 13 (.iconst 4) 1 14 := ⟨by decide +kernel, rfl⟩
theorem d_m_isBit_14 : DD b_m_isBit 14 .ishr 1 15 := ⟨by decide +kernel, rfl⟩
theorem d_m_isBit_15 : DD b_m_isBit 15 .iaload 1 16 := ⟨by decide +kernel, rfl⟩
theorem d_m_isBit_16 : DD b_m_isBit 16 (.iload_n 2) 1 17 := ⟨by decide +kernel, rfl⟩
theorem d_m_isBit_17 : DD b_m_isBit 17 (.bipush 15) 2 19 := ⟨by decide +kernel, rfl⟩
theorem d_m_isBit_19 : DD b_m_isBit 19 .iand 1 20 := ⟨by decide +kernel, rfl⟩
theorem d_m_isBit_20 : DD b_m_isBit 20 .ishr 1 21 := ⟨by decide +kernel, rfl⟩
theorem d_m_isBit_21 : DD b_m_isBit 21 (.iconst 1) 1 22 := ⟨by decide +kernel, rfl⟩
theorem d_m_isBit_22 : DD b_m_isBit 22 .iand 1 23 := ⟨by decide +kernel, rfl⟩
theorem d_m_isBit_23 : DB b_m_isBit 23 (.ifCond .eq 7) 7 26 30 := ⟨by decide +kernel, rfl, rfl⟩
theorem d_m_isBit_26 : DD b_m_isBit 26 (.iconst 1) 1 27 := ⟨by decide +kernel, rfl⟩
theorem d_m_isBit_27 : DB b_m_isBit 27 (.goto 4) 4 30 31 := ⟨by decide +kernel, rfl, rfl⟩
theorem d_m_isBit_30 : DD b_m_isBit 30 (.iconst 0) 1 31 := ⟨by decide +kernel, rfl⟩
theorem d_m_isBit_31 : DD b_m_isBit 31 .ireturn 1 32 := ⟨by decide +kernel, rfl⟩
set_option maxRecDepth 20000 in
set_option maxHeartbeats 4000000 in
theorem c_m_isBit (l : Launch) (G : ZG) {p0 p1 p2 : Int} {σ : Mem} {K : Int → Prop} (h : wp_m_isBit p0 p1 p2 σ K) (h_p0 : isA p0) (h_p1 : okI p1) (h_p2 : okI p2) : Ct l G y_m_isBit (.code y_m_isBit b_m_isBit 3 (some .boolean)) { frames := 0, cells := 0, slots := 0, locals := 0 } 0 0 4 [.ref (zA G p0), .int (iI p1), .int (iI p2)] σ (fun r σ1 => σ = σ1 ∧ K r) (fun _ _ => False) := by
  unfold wp_m_isBit at h
  refine Ct.ofZ [(0, .ref (zA G p0)), (1, .int (iI p1)), (2, .int (iI p2))] "LimbDeskModel" (by decide) rfl (Nat.le_of_ble_eq_true rfl) rfl ?_
  intro E hR hlE C hr hX
  subst hlE
  clear hR
  obtain ⟨Q, hQ⟩ : ∃ Q, Q = MQX G (zb E) 4 (fun r σ1 => σ = σ1 ∧ K r) (fun _ _ => False) (zs E) 0 0 0 0 := ⟨_, rfl⟩
  show Z E G 3 0 0 (MQX G (zb E) 4 (fun r σ1 => σ = σ1 ∧ K r) (fun _ _ => False) (zs E) 0 0 0 0) σ 0 [(0, .ref (zA G p0)), (1, .int (iI p1)), (2, .int (iI p2))] []
  rw [← hQ]
  refine z_iload_n C 2 d_m_isBit_0 rfl ?_
  refine Jq0.walk (Z E G 3 0 0 Q σ 30 [] []) h ?_ ?_
  · intro h
    refine z_iconst C d_m_isBit_30 ?_
    subst hQ
    exact z_zreturn C d_m_isBit_31.1 hr ⟨Nat.zero_le _, Nat.zero_le _⟩ (Or.inl rfl) ⟨rfl, h⟩
  · intro J1 HJ1 h
    refine z_if_lt C d_m_isBit_1 h_p2 (fun hb2 => ?_) (fun hb2 => ?_)
    · have h := h.1 hb2
      refine z_sub [] [] rfl ?_
      exact HJ1 h
    · have h := h.2 hb2
      refine z_iload_n C 2 d_m_isBit_4 rfl ?_
      refine z_iconst C d_m_isBit_5 ?_
      refine z_ishrK C 16 d_m_isBit_6 (by decide) h_p2 ⟨by decide, by decide⟩ ?_
      refine z_iload_n C 1 d_m_isBit_7 rfl ?_
      obtain ⟨ok3, h⟩ := h
      refine z_icmp_ge C d_m_isBit_8 ok3 h_p1 (fun hb4 => ?_) (fun hb4 => ?_)
      · have h := h.1 hb4
        refine z_sub [] [] rfl ?_
        exact HJ1 h
      · have h := h.2 hb4
        refine z_aload_n C 0 d_m_isBit_11 rfl ?_
        refine z_iload_n C 2 d_m_isBit_12 rfl ?_
        refine z_iconst C d_m_isBit_13 ?_
        refine z_ishrK C 16 d_m_isBit_14 (by decide) h_p2 ⟨by decide, by decide⟩ ?_
        obtain ⟨hc5, h⟩ := h
        refine z_ialdN C (ln p0) d_m_isBit_15 h_p0 rfl hc5 ?_
        refine z_iload_n C 2 d_m_isBit_16 rfl ?_
        refine z_bipush C d_m_isBit_17 (by decide) ?_
        refine z_imask C 4 16 d_m_isBit_19 (by decide) (by decide) (by decide) ?_
        obtain ⟨hc6, h⟩ := h
        obtain ⟨ok7, h⟩ := h
        refine z_ishr C d_m_isBit_20 ok7 hc6 ?_
        refine z_iconst C d_m_isBit_21 ?_
        refine z_imask C 1 2 d_m_isBit_22 (by decide) (by decide) (by decide) ?_
        refine z_if_eq C d_m_isBit_23 (okI_mod (by decide) (by decide)) (fun hb8 => ?_) (fun hb8 => ?_)
        · have h := h.1 hb8
          refine z_sub [] [] rfl ?_
          exact HJ1 h
        · have h := h.2 hb8
          refine z_iconst C d_m_isBit_26 ?_
          refine z_goto C d_m_isBit_27 ?_
          subst hQ
          exact z_zreturn C d_m_isBit_31.1 hr ⟨Nat.zero_le _, Nat.zero_le _⟩ (Or.inr rfl) ⟨rfl, h⟩
theorem d_m_in_0 : DD b_m_in 0 (.iload_n 0) 1 1 := ⟨by decide +kernel, rfl⟩
theorem d_m_in_1 : DD b_m_in 1 (.iload_n 1) 1 2 := ⟨by decide +kernel, rfl⟩
theorem d_m_in_2 : DB b_m_in 2 (.if_icmp .lt 12) 12 5 14 := ⟨by decide +kernel, rfl, rfl⟩
theorem d_m_in_5 : DD b_m_in 5 (.iload_n 0) 1 6 := ⟨by decide +kernel, rfl⟩
theorem d_m_in_6 : DD b_m_in 6 (.iload_n 2) 1 7 := ⟨by decide +kernel, rfl⟩
theorem d_m_in_7 : DB b_m_in 7 (.if_icmp .gt 7) 7 10 14 := ⟨by decide +kernel, rfl, rfl⟩
theorem d_m_in_10 : DD b_m_in 10 (.iconst 1) 1 11 := ⟨by decide +kernel, rfl⟩
theorem d_m_in_11 : DB b_m_in 11 (.goto 4) 4 14 15 := ⟨by decide +kernel, rfl, rfl⟩
theorem d_m_in_14 : DD b_m_in 14 (.iconst 0) 1 15 := ⟨by decide +kernel, rfl⟩
theorem d_m_in_15 : DD b_m_in 15 .ireturn 1 16 := ⟨by decide +kernel, rfl⟩
set_option maxRecDepth 20000 in
set_option maxHeartbeats 4000000 in
theorem c_m_in (l : Launch) (G : ZG) {p0 p1 p2 : Int} {σ : Mem} {K : Int → Prop} (h : wp_m_in p0 p1 p2 σ K) (h_p0 : okI p0) (h_p1 : okI p1) (h_p2 : okI p2) : Ct l G y_m_in (.code y_m_in b_m_in 3 (some .boolean)) { frames := 0, cells := 0, slots := 0, locals := 0 } 0 0 4 [.int (iI p0), .int (iI p1), .int (iI p2)] σ (fun r σ1 => σ = σ1 ∧ K r) (fun _ _ => False) := by
  unfold wp_m_in at h
  refine Ct.ofZ [(0, .int (iI p0)), (1, .int (iI p1)), (2, .int (iI p2))] "LimbDeskModel" (by decide) rfl (Nat.le_of_ble_eq_true rfl) rfl ?_
  intro E hR hlE C hr hX
  subst hlE
  clear hR
  obtain ⟨Q, hQ⟩ : ∃ Q, Q = MQX G (zb E) 4 (fun r σ1 => σ = σ1 ∧ K r) (fun _ _ => False) (zs E) 0 0 0 0 := ⟨_, rfl⟩
  show Z E G 3 0 0 (MQX G (zb E) 4 (fun r σ1 => σ = σ1 ∧ K r) (fun _ _ => False) (zs E) 0 0 0 0) σ 0 [(0, .int (iI p0)), (1, .int (iI p1)), (2, .int (iI p2))] []
  rw [← hQ]
  refine z_iload_n C 0 d_m_in_0 rfl ?_
  refine z_iload_n C 1 d_m_in_1 rfl ?_
  refine Jq0.walk (Z E G 3 0 0 Q σ 14 [] []) h ?_ ?_
  · intro h
    refine z_iconst C d_m_in_14 ?_
    subst hQ
    exact z_zreturn C d_m_in_15.1 hr ⟨Nat.zero_le _, Nat.zero_le _⟩ (Or.inl rfl) ⟨rfl, h⟩
  · intro J1 HJ1 h
    refine z_icmp_lt C d_m_in_2 h_p0 h_p1 (fun hb2 => ?_) (fun hb2 => ?_)
    · have h := h.1 hb2
      refine z_sub [] [] rfl ?_
      exact HJ1 h
    · have h := h.2 hb2
      refine z_iload_n C 0 d_m_in_5 rfl ?_
      refine z_iload_n C 2 d_m_in_6 rfl ?_
      refine z_icmp_gt C d_m_in_7 h_p0 h_p2 (fun hb3 => ?_) (fun hb3 => ?_)
      · have h := h.1 hb3
        refine z_sub [] [] rfl ?_
        exact HJ1 h
      · have h := h.2 hb3
        refine z_iconst C d_m_in_10 ?_
        refine z_goto C d_m_in_11 ?_
        subst hQ
        exact z_zreturn C d_m_in_15.1 hr ⟨Nat.zero_le _, Nat.zero_le _⟩ (Or.inr rfl) ⟨rfl, h⟩
theorem d_m_fails_0 : DD b_m_fails 0 (.iload_n 1) 1 1 := ⟨by decide +kernel, rfl⟩
theorem d_m_fails_1 : DB b_m_fails 1 (.ifCond .eq 15) 15 4 16 := ⟨by decide +kernel, rfl, rfl⟩
theorem d_m_fails_4 : DD b_m_fails 4 (.aload_n 0) 1 5 := ⟨by decide +kernel, rfl⟩
theorem d_m_fails_5 : DD b_m_fails 5 (.getfield 49) 3 8 := ⟨by decide +kernel, rfl⟩
theorem d_m_fails_8 : DB b_m_fails 8 (.ifCond .ne 8) 8 11 16 := ⟨by decide +kernel, rfl, rfl⟩
theorem d_m_fails_11 : DD b_m_fails 11 (.aload_n 0) 1 12 := ⟨by decide +kernel, rfl⟩
theorem d_m_fails_12 : DD b_m_fails 12 (.iload_n 2) 1 13 := ⟨by decide +kernel, rfl⟩
theorem d_m_fails_13 : DD b_m_fails 13 (.putfield 49) 3 16 := ⟨by decide +kernel, rfl⟩
theorem d_m_fails_16 : DD b_m_fails 16 (.aload_n 0) 1 17 := ⟨by decide +kernel, rfl⟩
theorem d_m_fails_17 : DD b_m_fails 17 (.getfield 49) 3 20 := ⟨by decide +kernel, rfl⟩
theorem d_m_fails_20 : DB b_m_fails 20 (.ifCond .eq 7) 7 23 27 := ⟨by decide +kernel, rfl, rfl⟩
theorem d_m_fails_23 : DD b_m_fails 23 (.iconst 1) 1 24 := ⟨by decide +kernel, rfl⟩
theorem d_m_fails_24 : DB b_m_fails 24 (.goto 4) 4 27 28 := ⟨by decide +kernel, rfl, rfl⟩
theorem d_m_fails_27 : DD b_m_fails 27 (.iconst 0) 1 28 := ⟨by decide +kernel, rfl⟩
theorem d_m_fails_28 : DD b_m_fails 28 .ireturn 1 29 := ⟨by decide +kernel, rfl⟩
set_option maxRecDepth 20000 in
set_option maxHeartbeats 4000000 in
theorem c_m_fails (l : Launch) (G : ZG) {p0 p1 : Int} {σ : Mem} {K : Int → Mem → Prop} (h : wp_m_fails p0 p1 σ K) (h_p0 : okI p0) (h_p1 : okI p1) : Ct l G y_m_fails (.code y_m_fails b_m_fails 3 (some .boolean)) { frames := 0, cells := 0, slots := 0, locals := 0 } 0 0 4 [.ref (zA G 45), .int (iI p0), .int (iI p1)] σ K (fun _ _ => False) := by
  unfold wp_m_fails at h
  refine Ct.ofZ [(0, .ref (zA G 45)), (1, .int (iI p0)), (2, .int (iI p1))] "LimbDeskModel" (by decide) rfl (Nat.le_of_ble_eq_true rfl) rfl ?_
  intro E hR hlE C hr hX
  subst hlE
  clear hR
  obtain ⟨Q, hQ⟩ : ∃ Q, Q = MQX G (zb E) 4 K (fun _ _ => False) (zs E) 0 0 0 0 := ⟨_, rfl⟩
  show Z E G 3 0 0 (MQX G (zb E) 4 K (fun _ _ => False) (zs E) 0 0 0 0) σ 0 [(0, .ref (zA G 45)), (1, .int (iI p0)), (2, .int (iI p1))] []
  rw [← hQ]
  refine z_iload_n C 1 d_m_fails_0 rfl ?_
  refine Jo0.walk (fun σ1 => Z E G 3 0 0 Q σ1 16 [(0, .ref (zA G 45))] []) h ?_ ?_
  · intro σ1 h
    refine z_aload_n C 0 d_m_fails_16 rfl ?_
    refine z_mget C 0 d_m_fails_17 (by decide) k_460 rfl rfl ?_
    obtain ⟨ok3, h⟩ := h
    have hj : ∀ s5 : Int, s5 = (if (σ1 45 0) = 0 then 0 else 1) → Z E G 3 0 0 Q σ1 28 [(0, .ref (zA G 45))] [.int (iI s5)] := by
      intro s5 e6
      have h := h s5 e6
      have ok7 : okI s5 := by rw [e6]; split; exact (okI_lit rfl); exact (okI_lit rfl)
      obtain ⟨hc8, h⟩ := h
      subst hQ
      exact z_zreturn C d_m_fails_28.1 hr ⟨Nat.zero_le _, Nat.zero_le _⟩ hc8 h
    clear h
    refine z_if_eq C d_m_fails_20 ok3 (fun hb4 => ?_) (fun hb4 => ?_)
    · refine z_iconst C d_m_fails_27 ?_
      exact hj _ (if_pos hb4).symm
    · refine z_iconst C d_m_fails_23 ?_
      refine z_goto C d_m_fails_24 ?_
      exact hj _ (if_neg hb4).symm
  · intro J2 HJ2 h
    refine z_if_eq C d_m_fails_1 h_p0 (fun hb9 => ?_) (fun hb9 => ?_)
    · have h := h.1 hb9
      refine z_sub [(0, .ref (zA G 45))] [0] rfl ?_
      exact HJ2 _ h
    · have h := h.2 hb9
      refine z_aload_n C 0 d_m_fails_4 rfl ?_
      refine z_mget C 0 d_m_fails_5 (by decide) k_460 rfl rfl ?_
      obtain ⟨ok10, h⟩ := h
      refine z_if_ne C d_m_fails_8 ok10 (fun hb11 => ?_) (fun hb11 => ?_)
      · have h := h.1 hb11
        refine z_sub [(0, .ref (zA G 45))] [0] rfl ?_
        exact HJ2 _ h
      · have h := h.2 hb11
        refine z_aload_n C 0 d_m_fails_11 rfl ?_
        refine z_iload_n C 2 d_m_fails_12 rfl ?_
        refine z_mput_err C d_m_fails_13 k_460 ?_
        refine z_sub [(0, .ref (zA G 45))] [0] rfl ?_
        exact HJ2 _ h
theorem d_m_isRegister_0 : DD b_m_isRegister 0 (.iload_n 0) 1 1 := ⟨by decide +kernel, rfl⟩
theorem d_m_isRegister_1 : DD b_m_isRegister 1 (.iconst 0) 1 2 := ⟨by decide +kernel, rfl⟩
theorem d_m_isRegister_2 : DD b_m_isRegister 2 (.bipush 15) 2 4 := ⟨by decide +kernel, rfl⟩
theorem d_m_isRegister_4 : DD b_m_isRegister 4 (.invokestatic 68) 3 7 := ⟨by decide +kernel, rfl⟩
theorem d_m_isRegister_7 : DD b_m_isRegister 7 .ireturn 1 8 := ⟨by decide +kernel, rfl⟩
set_option maxRecDepth 20000 in
set_option maxHeartbeats 4000000 in
theorem c_m_isRegister (l : Launch) (G : ZG) {p0 : Int} {σ : Mem} {K : Int → Prop} (h : wp_m_isRegister p0 σ K) (h_p0 : okI p0) : Ct l G y_m_isRegister (.code y_m_isRegister b_m_isRegister 1 (some .boolean)) { frames := 1, cells := 0, slots := 0, locals := 22 } 0 0 4 [.int (iI p0)] σ (fun r σ1 => σ = σ1 ∧ K r) (fun _ _ => False) := by
  unfold wp_m_isRegister at h
  refine Ct.ofZ [(0, .int (iI p0))] "LimbDeskModel" (by decide) rfl (Nat.le_of_ble_eq_true rfl) rfl ?_
  intro E hR hlE C hr hX
  subst hlE
  have hroom_m_in : 0 + 1 ≤ (zR E).frames ∧ 8 + (3 + 11) + 0 ≤ (zR E).locals ∧ 0 + 0 ≤ (zR E).cells ∧ 0 + 0 ≤ (zR E).slots := by rw [hR]; decide
  clear hR
  obtain ⟨Q, hQ⟩ : ∃ Q, Q = MQX G (zb E) 4 (fun r σ1 => σ = σ1 ∧ K r) (fun _ _ => False) (zs E) 0 0 0 0 := ⟨_, rfl⟩
  show Z E G 1 0 0 (MQX G (zb E) 4 (fun r σ1 => σ = σ1 ∧ K r) (fun _ _ => False) (zs E) 0 0 0 0) σ 0 [(0, .int (iI p0))] []
  rw [← hQ]
  refine z_iload_n C 0 d_m_isRegister_0 rfl ?_
  refine z_iconst C d_m_isRegister_1 ?_
  refine z_bipush C d_m_isRegister_2 (by decide) ?_
  refine z_callS C [.int (iI p0), .int (iI 0), .int (iI 15)] [] 3 d_m_isRegister_4 (c_m_in (zl E) G h h_p0 (okI_lit rfl) (okI_lit rfl)) k_522 k_520 k_521 k_3 (by decide)  (by decide +kernel) rfl rfl (Nat.le_of_ble_eq_true rfl) hroom_m_in (fun r1 _s3 ok2 hq => ?_) (fun _ _ hx => hx.elim)
  obtain ⟨hs_, hk_⟩ := hq
  subst hs_
  have h := hk_
  subst hQ
  exact z_zreturn C d_m_isRegister_7.1 hr ⟨Nat.zero_le _, Nat.zero_le _⟩ ok2 ⟨rfl, h⟩
theorem d_m_load_0 : DD b_m_load 0 (.iconst 0) 1 1 := ⟨by decide +kernel, rfl⟩
theorem d_m_load_1 : DD b_m_load 1 (.istore_n 3) 1 2 := ⟨by decide +kernel, rfl⟩
theorem d_m_load_2 : DD b_m_load 2 (.iload_n 3) 1 3 := ⟨by decide +kernel, rfl⟩
theorem d_m_load_3 : DD b_m_load 3 (.aload_n 0) 1 4 := ⟨by decide +kernel, rfl⟩
theorem d_m_load_4 : DD b_m_load 4 (.getfield 13) 3 7 := ⟨by decide +kernel, rfl⟩
theorem d_m_load_7 : DD b_m_load 7 (.iload_n 1) 1 8 := ⟨by decide +kernel, rfl⟩
theorem d_m_load_8 : DD b_m_load 8 .iaload 1 9 := ⟨by decide +kernel, rfl⟩
theorem d_m_load_9 : DB b_m_load 9 (.if_icmp .ge 24) 24 12 33 := ⟨by decide +kernel, rfl, rfl⟩
theorem d_m_load_12 : DD b_m_load 12 (.aload_n 2) 1 13 := ⟨by decide +kernel, rfl⟩
theorem d_m_load_13 : DD b_m_load 13 (.iload_n 3) 1 14 := ⟨by decide +kernel, rfl⟩
theorem d_m_load_14 : DD b_m_load 14 (.aload_n 0) 1 15 := ⟨by decide +kernel, rfl⟩
theorem d_m_load_15 : DD b_m_load 15 (.getfield 9) 3 18 := ⟨by decide +kernel, rfl⟩
theorem d_m_load_18 : DD b_m_load 18 (.sipush 129) 3 21 := ⟨by decide +kernel, rfl⟩
theorem d_m_load_21 : DD b_m_load 21 (.iload_n 1) 1 22 := ⟨by decide +kernel, rfl⟩
theorem d_m_load_22 : DD b_m_load 22 .imul 1 23 := ⟨by decide +kernel, rfl⟩
theorem d_m_load_23 : DD b_m_load 23 (.iload_n 3) 1 24 := ⟨by decide +kernel, rfl⟩
theorem d_m_load_24 : DD b_m_load 24 .iadd 1 25 := ⟨by decide +kernel, rfl⟩
theorem d_m_load_25 : DD b_m_load 25 .iaload 1 26 := ⟨by decide +kernel, rfl⟩
theorem d_m_load_26 : DD b_m_load 26 .iastore 1 27 := ⟨by decide +kernel, rfl⟩
theorem d_m_load_27 : DD b_m_load 27 (.iinc 3 1) 3 30 := ⟨by decide +kernel, rfl⟩
theorem d_m_load_30 : DB b_m_load 30 (.goto (-28)) (-28) 33 2 := ⟨by decide +kernel, rfl, rfl⟩
theorem d_m_load_33 : DD b_m_load 33 (.aload_n 0) 1 34 := ⟨by decide +kernel, rfl⟩
theorem d_m_load_34 : DD b_m_load 34 (.getfield 13) 3 37 := ⟨by decide +kernel, rfl⟩
theorem d_m_load_37 : DD b_m_load 37 (.iload_n 1) 1 38 := ⟨by decide +kernel, rfl⟩
theorem d_m_load_38 : DD b_m_load 38 .iaload 1 39 := ⟨by decide +kernel, rfl⟩
theorem d_m_load_39 : DD b_m_load 39 .ireturn 1 40 := ⟨by decide +kernel, rfl⟩
set_option maxRecDepth 20000 in
set_option maxHeartbeats 4000000 in
theorem c_m_load (l : Launch) (G : ZG) {p0 p1 : Int} {σ : Mem} {K : Int → Mem → Prop} (h : wp_m_load p0 p1 σ K) (h_p0 : okI p0) (h_p1 : isA p1) : Ct l G y_m_load (.code y_m_load b_m_load 4 (some .int)) { frames := 0, cells := 0, slots := 0, locals := 0 } 0 0 1 [.ref (zA G 45), .int (iI p0), .ref (zA G p1)] σ K (fun _ _ => False) := by
  unfold wp_m_load at h
  refine Ct.ofZ [(0, .ref (zA G 45)), (1, .int (iI p0)), (2, .ref (zA G p1))] "LimbDeskModel" (by decide) rfl (Nat.le_of_ble_eq_true rfl) rfl ?_
  intro E hR hlE C hr hX
  subst hlE
  clear hR
  obtain ⟨Q, hQ⟩ : ∃ Q, Q = MQX G (zb E) 1 K (fun _ _ => False) (zs E) 0 0 0 0 := ⟨_, rfl⟩
  show Z E G 4 0 0 (MQX G (zb E) 1 K (fun _ _ => False) (zs E) 0 0 0 0) σ 0 [(0, .ref (zA G 45)), (1, .int (iI p0)), (2, .ref (zA G p1))] []
  rw [← hQ]
  refine z_iconst C d_m_load_0 ?_
  refine z_istore_n C [(3, .int (iI 0)), (0, .ref (zA G 45)), (1, .int (iI p0)), (2, .ref (zA G p1))] d_m_load_1 (by decide) rfl ?_
  refine z_sub [(0, .ref (zA G 45)), (1, .int (iI p0)), (2, .ref (zA G p1)), (3, .int (iI 0))] [1, 2, 3, 0] rfl ?_
  refine (Lo1.walk (P := fun v3_1 σ2 => okI v3_1 → Z E G 4 0 0 Q σ2 2 [(0, .ref (zA G 45)), (1, .int (iI p0)), (2, .ref (zA G p1)), (3, .int (iI v3_1))] []) ?_ h) (okI_lit rfl)
  intro v3_1 σ2 again4 Hagain4 h ok3
  refine z_iload_n C 3 d_m_load_2 rfl ?_
  refine z_aload_n C 0 d_m_load_3 rfl ?_
  refine z_mget C 3 d_m_load_4 (by decide) k_463 rfl rfl ?_
  refine z_iload_n C 1 d_m_load_7 rfl ?_
  obtain ⟨hc5, h⟩ := h
  refine z_ialdN C (16) d_m_load_8 (Or.inr ⟨by decide, by decide⟩) (by decide) hc5 ?_
  obtain ⟨ok6, h⟩ := h
  refine z_icmp_ge C d_m_load_9 ok3 ok6 (fun hb7 => ?_) (fun hb7 => ?_)
  · have h := h.1 hb7
    refine z_aload_n C 0 d_m_load_33 rfl ?_
    refine z_mget C 3 d_m_load_34 (by decide) k_463 rfl rfl ?_
    refine z_iload_n C 1 d_m_load_37 rfl ?_
    refine z_ialdN C (16) d_m_load_38 (Or.inr ⟨by decide, by decide⟩) (by decide) hc5 ?_
    subst hQ
    exact z_ireturn C d_m_load_39.1 hr ⟨Nat.zero_le _, Nat.zero_le _⟩ ok6 h
  · have h := h.2 hb7
    refine z_aload_n C 2 d_m_load_12 rfl ?_
    refine z_iload_n C 3 d_m_load_13 rfl ?_
    refine z_aload_n C 0 d_m_load_14 rfl ?_
    refine z_mget C 2 d_m_load_15 (by decide) k_462 rfl rfl ?_
    refine z_sipush C d_m_load_18 (by decide) ?_
    refine z_iload_n C 1 d_m_load_21 rfl ?_
    refine z_imul C d_m_load_22 ?_
    refine z_iload_n C 3 d_m_load_23 rfl ?_
    refine z_iadd C d_m_load_24 ?_
    obtain ⟨hc8, h⟩ := h
    refine z_ialdN C (2064) d_m_load_25 (Or.inr ⟨by decide, by decide⟩) (by decide) hc8 ?_
    obtain ⟨hc9, h⟩ := h
    refine z_iastN C (ln p1) d_m_load_26 h_p1 rfl hc9 ?_
    refine z_iinc C 3 [(3, .int (iI (v3_1 + 1))), (0, .ref (zA G 45)), (1, .int (iI p0)), (2, .ref (zA G p1))] d_m_load_27 rfl (by decide) rfl ?_
    refine z_goto C d_m_load_30 ?_
    obtain ⟨ok10, h⟩ := h
    refine z_sub [(0, .ref (zA G 45)), (1, .int (iI p0)), (2, .ref (zA G p1)), (3, .int (iI (v3_1 + 1)))] [1, 2, 3, 0] rfl ?_
    exact Hagain4 _ _ h ok10
theorem d_m_bits0_0 : DD b_m_bits0 0 (.iload_n 1) 1 1 := ⟨by decide +kernel, rfl⟩
theorem d_m_bits0_1 : DB b_m_bits0 1 (.ifCond .ne 5) 5 4 6 := ⟨by decide +kernel, rfl, rfl⟩
theorem d_m_bits0_4 : DD b_m_bits0 4 (.iconst 0) 1 5 := ⟨by decide +kernel, rfl⟩
theorem d_m_bits0_5 : DD b_m_bits0 5 .ireturn 1 6 := ⟨by decide +kernel, rfl⟩
theorem d_m_bits0_6 : DD b_m_bits0 6 (.bipush 16) 2 8 := ⟨by decide +kernel, rfl⟩
theorem d_m_bits0_8 : DD b_m_bits0 8 (.iload_n 1) 1 9 := ⟨by decide +kernel, rfl⟩
theorem d_m_bits0_9 : DD b_m_bits0 9 (.iconst 1) 1 10 := ⟨by decide +kernel, rfl⟩
theorem d_m_bits0_10 : DD b_m_bits0 10 .isub 1 11 := ⟨by decide +kernel, rfl⟩
theorem d_m_bits0_11 : DD b_m_bits0 11 .imul 1 12 := ⟨by decide +kernel, rfl⟩
theorem d_m_bits0_12 : DD b_m_bits0 12 (.istore_n 2) 1 13 := ⟨by decide +kernel, rfl⟩
theorem d_m_bits0_13 : DD b_m_bits0 13 (.aload_n 0) 1 14 := ⟨by decide +kernel, rfl⟩
theorem d_m_bits0_14 : DD b_m_bits0 14 (.iload_n 1) 1 15 := ⟨by decide +kernel, rfl⟩
theorem d_m_bits0_15 : DD b_m_bits0 15 (.iconst 1) 1 16 := ⟨by decide +kernel, rfl⟩
theorem d_m_bits0_16 : DD b_m_bits0 16 .isub 1 17 := ⟨by decide +kernel, rfl⟩
theorem d_m_bits0_17 : DD b_m_bits0 17 .iaload 1 18 := ⟨by decide +kernel, rfl⟩
theorem d_m_bits0_18 : DD b_m_bits0 18 (.istore_n 3) 1 19 := ⟨by decide +kernel, rfl⟩
theorem d_m_bits0_19 : DD b_m_bits0 19 (.iload_n 3) 1 20 := ⟨by decide +kernel, rfl⟩
theorem d_m_bits0_20 : DB b_m_bits0 20 (.ifCond .eq 13) 13 23 33 := ⟨by decide +kernel, rfl, rfl⟩
theorem d_m_bits0_23 : DD b_m_bits0 23 (.iinc 2 1) 3 26 := ⟨by decide +kernel, rfl⟩
theorem d_m_bits0_26 : DD b_m_bits0 26 (.iload_n 3) 1 27 := ⟨by decide +kernel, rfl⟩
theorem d_m_bits0_27 : DD b_m_bits0 27 (.iconst 1) 1 28 := ⟨by decide +kernel, rfl⟩
theorem d_m_bits0_28 : DD b_m_bits0 28 .iushr 1 29 := ⟨by decide +kernel, rfl⟩
theorem d_m_bits0_29 : DD b_m_bits0 29 (.istore_n 3) 1 30 := ⟨by decide +kernel, rfl⟩
theorem d_m_bits0_30 : DB b_m_bits0 30 (.goto (-11)) (-11) 33 19 := ⟨by decide +kernel, rfl, rfl⟩
theorem d_m_bits0_33 : DD b_m_bits0 33 (.iload_n 2) 1 34 := ⟨by decide +kernel, rfl⟩
theorem d_m_bits0_34 : DD b_m_bits0 34 .ireturn 1 35 := ⟨by decide +kernel, rfl⟩
set_option maxRecDepth 20000 in
set_option maxHeartbeats 4000000 in
theorem c_m_bits0 (l : Launch) (G : ZG) {p0 p1 : Int} {σ : Mem} {K : Int → Prop} (h : wp_m_bits0 p0 p1 σ K) (h_p0 : isA p0) (h_p1 : okI p1) : Ct l G y_m_bits0 (.code y_m_bits0 b_m_bits0 4 (some .int)) { frames := 0, cells := 0, slots := 0, locals := 0 } 0 0 1 [.ref (zA G p0), .int (iI p1)] σ (fun r σ1 => σ = σ1 ∧ K r) (fun _ _ => False) := by
  unfold wp_m_bits0 at h
  refine Ct.ofZ [(0, .ref (zA G p0)), (1, .int (iI p1))] "LimbDeskModel" (by decide) rfl (Nat.le_of_ble_eq_true rfl) rfl ?_
  intro E hR hlE C hr hX
  subst hlE
  clear hR
  obtain ⟨Q, hQ⟩ : ∃ Q, Q = MQX G (zb E) 1 (fun r σ1 => σ = σ1 ∧ K r) (fun _ _ => False) (zs E) 0 0 0 0 := ⟨_, rfl⟩
  show Z E G 4 0 0 (MQX G (zb E) 1 (fun r σ1 => σ = σ1 ∧ K r) (fun _ _ => False) (zs E) 0 0 0 0) σ 0 [(0, .ref (zA G p0)), (1, .int (iI p1))] []
  rw [← hQ]
  refine z_iload_n C 1 d_m_bits0_0 rfl ?_
  refine z_if_ne C d_m_bits0_1 h_p1 (fun hb1 => ?_) (fun hb1 => ?_)
  · have h := h.1 hb1
    refine z_bipush C d_m_bits0_6 (by decide) ?_
    refine z_iload_n C 1 d_m_bits0_8 rfl ?_
    refine z_iconst C d_m_bits0_9 ?_
    refine z_isub C d_m_bits0_10 ?_
    refine z_imul C d_m_bits0_11 ?_
    refine z_namei (fun v2_2 e3 => ?_)
    have h := h v2_2 e3
    refine z_istore_n C [(2, .int (iI v2_2)), (0, .ref (zA G p0)), (1, .int (iI p1))] d_m_bits0_12 (by decide) rfl ?_
    refine z_aload_n C 1 d_m_bits0_13 rfl ?_
    refine z_iload_n C 2 d_m_bits0_14 rfl ?_
    refine z_iconst C d_m_bits0_15 ?_
    refine z_isub C d_m_bits0_16 ?_
    obtain ⟨hc4, h⟩ := h
    refine z_ialdN C (ln p0) d_m_bits0_17 h_p0 rfl hc4 ?_
    refine z_namei (fun v3_5 e6 => ?_)
    have h := h v3_5 e6
    refine z_istore_n C [(3, .int (iI v3_5)), (2, .int (iI v2_2)), (0, .ref (zA G p0)), (1, .int (iI p1))] d_m_bits0_18 (by decide) rfl ?_
    obtain ⟨ok8, h⟩ := h
    obtain ⟨ok10, h⟩ := h
    refine z_sub [(2, .int (iI v2_2)), (3, .int (iI v3_5))] [1, 0] rfl ?_
    refine (Lq2.walk (P := fun v2_7 v3_9 => okI v2_7 → okI v3_9 → Z E G 4 0 0 Q σ 19 [(2, .int (iI v2_7)), (3, .int (iI v3_9))] []) ?_ h) ok8 ok10
    intro v2_7 v3_9 again13 Hagain13 h ok11 ok12
    refine z_iload_n C 1 d_m_bits0_19 rfl ?_
    refine z_if_eq C d_m_bits0_20 ok12 (fun hb14 => ?_) (fun hb14 => ?_)
    · have h := h.1 hb14
      refine z_iload_n C 0 d_m_bits0_33 rfl ?_
      subst hQ
      exact z_ireturn C d_m_bits0_34.1 hr ⟨Nat.zero_le _, Nat.zero_le _⟩ ok11 ⟨rfl, h⟩
    · have h := h.2 hb14
      refine z_iinc C 0 [(2, .int (iI (v2_7 + 1))), (3, .int (iI v3_9))] d_m_bits0_23 rfl (by decide) rfl ?_
      refine z_iload_n C 1 d_m_bits0_26 rfl ?_
      refine z_iconst C d_m_bits0_27 ?_
      obtain ⟨hc15, h⟩ := h
      refine z_iushrK C 2 d_m_bits0_28 (by decide) hc15 ⟨by decide, by decide⟩ ?_
      refine z_namei (fun v3_16 e17 => ?_)
      have h := h v3_16 e17
      refine z_istore_n C [(3, .int (iI v3_16)), (2, .int (iI (v2_7 + 1)))] d_m_bits0_29 (by decide) rfl ?_
      refine z_goto C d_m_bits0_30 ?_
      obtain ⟨ok18, h⟩ := h
      obtain ⟨ok19, h⟩ := h
      refine z_sub [(2, .int (iI (v2_7 + 1))), (3, .int (iI v3_16))] [1, 0] rfl ?_
      exact Hagain13 _ _ h ok18 ok19
  · have h := h.2 hb1
    refine z_iconst C d_m_bits0_4 ?_
    subst hQ
    exact z_ireturn C d_m_bits0_5.1 hr ⟨Nat.zero_le _, Nat.zero_le _⟩ (okI_lit rfl) ⟨rfl, h⟩
theorem d_m_size0_0 : DD b_m_size0 0 (.aload_n 0) 1 1 := ⟨by decide +kernel, rfl⟩
theorem d_m_size0_1 : DD b_m_size0 1 (.iload_n 1) 1 2 := ⟨by decide +kernel, rfl⟩
theorem d_m_size0_2 : DD b_m_size0 2 (.aload_n 0) 1 3 := ⟨by decide +kernel, rfl⟩
theorem d_m_size0_3 : DD b_m_size0 3 (.getfield 37) 3 6 := ⟨by decide +kernel, rfl⟩
theorem d_m_size0_6 : DD b_m_size0 6 (.invokevirtual 72) 3 9 := ⟨by decide +kernel, rfl⟩
theorem d_m_size0_9 : DD b_m_size0 9 (.istore_n 2) 1 10 := ⟨by decide +kernel, rfl⟩
theorem d_m_size0_10 : DD b_m_size0 10 (.aload_n 0) 1 11 := ⟨by decide +kernel, rfl⟩
theorem d_m_size0_11 : DD b_m_size0 11 (.getfield 37) 3 14 := ⟨by decide +kernel, rfl⟩
theorem d_m_size0_14 : DD b_m_size0 14 (.iload_n 2) 1 15 := ⟨by decide +kernel, rfl⟩
theorem d_m_size0_15 : DD b_m_size0 15 (.invokestatic 76) 3 18 := ⟨by decide +kernel, rfl⟩
theorem d_m_size0_18 : DD b_m_size0 18 .ireturn 1 19 := ⟨by decide +kernel, rfl⟩
set_option maxRecDepth 20000 in
set_option maxHeartbeats 4000000 in
theorem c_m_size0 (l : Launch) (G : ZG) {p0 : Int} {σ : Mem} {K : Int → Mem → Prop} (h : wp_m_size0 p0 σ K) (h_p0 : okI p0) : Ct l G y_m_size0 (.code y_m_size0 b_m_size0 3 (some .int)) { frames := 1, cells := 0, slots := 0, locals := 23 } 0 0 1 [.ref (zA G 45), .int (iI p0)] σ K (fun _ _ => False) := by
  unfold wp_m_size0 at h
  refine Ct.ofZ [(0, .ref (zA G 45)), (1, .int (iI p0))] "LimbDeskModel" (by decide) rfl (Nat.le_of_ble_eq_true rfl) rfl ?_
  intro E hR hlE C hr hX
  subst hlE
  have hroom_m_bits0 : 0 + 1 ≤ (zR E).frames ∧ 8 + (4 + 11) + 0 ≤ (zR E).locals ∧ 0 + 0 ≤ (zR E).cells ∧ 0 + 0 ≤ (zR E).slots := by rw [hR]; decide
  have hroom_m_load : 0 + 1 ≤ (zR E).frames ∧ 8 + (4 + 11) + 0 ≤ (zR E).locals ∧ 0 + 0 ≤ (zR E).cells ∧ 0 + 0 ≤ (zR E).slots := by rw [hR]; decide
  clear hR
  obtain ⟨Q, hQ⟩ : ∃ Q, Q = MQX G (zb E) 1 K (fun _ _ => False) (zs E) 0 0 0 0 := ⟨_, rfl⟩
  show Z E G 3 0 0 (MQX G (zb E) 1 K (fun _ _ => False) (zs E) 0 0 0 0) σ 0 [(0, .ref (zA G 45)), (1, .int (iI p0))] []
  rw [← hQ]
  refine z_aload_n C 0 d_m_size0_0 rfl ?_
  refine z_iload_n C 1 d_m_size0_1 rfl ?_
  refine z_aload_n C 0 d_m_size0_2 rfl ?_
  refine z_mget C 11 d_m_size0_3 (by decide) k_471 rfl rfl ?_
  refine z_callV C "LimbDeskModel" [.int (iI p0), .ref (zA G 55)] [] 2 d_m_size0_6 (c_m_load (zl E) G h h_p0 (Or.inr ⟨by decide, by decide⟩)) k_534 k_531 k_533 k_s8 k_3 (by decide) (recv_M C) (by decide +kernel) rfl rfl (Nat.le_of_ble_eq_true rfl) hroom_m_load (fun r1 σ2 ok3 hq => ?_) (fun _ _ hx => hx.elim)
  have h := hq
  refine z_istore_n C [(2, .int (iI r1)), (0, .ref (zA G 45)), (1, .int (iI p0))] d_m_size0_9 (by decide) rfl ?_
  refine z_aload_n C 1 d_m_size0_10 rfl ?_
  refine z_mget C 11 d_m_size0_11 (by decide) k_471 rfl rfl ?_
  refine z_iload_n C 0 d_m_size0_14 rfl ?_
  refine z_callS C [.ref (zA G 55), .int (iI r1)] [] 2 d_m_size0_15 (c_m_bits0 (zl E) G h (Or.inr ⟨by decide, by decide⟩) ok3) k_537 k_535 k_536 k_3 (by decide)  (by decide +kernel) rfl rfl (Nat.le_of_ble_eq_true rfl) hroom_m_bits0 (fun r4 _s6 ok5 hq => ?_) (fun _ _ hx => hx.elim)
  obtain ⟨hs_, hk_⟩ := hq
  subst hs_
  have h := hk_
  subst hQ
  exact z_ireturn C d_m_size0_18.1 hr ⟨Nat.zero_le _, Nat.zero_le _⟩ ok5 h
theorem d_m_keep_0 : DD b_m_keep 0 (.aload_n 3) 1 1 := ⟨by decide +kernel, rfl⟩
theorem d_m_keep_1 : DD b_m_keep 1 (.iload 4) 2 3 := ⟨by decide +kernel, rfl⟩
theorem d_m_keep_3 : DD b_m_keep 3 (.invokestatic 54) 3 6 := ⟨by decide +kernel, rfl⟩
theorem d_m_keep_6 : DD b_m_keep 6 (.istore 6) 2 8 := ⟨by decide +kernel, rfl⟩
theorem d_m_keep_8 : DD b_m_keep 8 (.aload_n 0) 1 9 := ⟨by decide +kernel, rfl⟩
theorem d_m_keep_9 : DD b_m_keep 9 (.aload_n 3) 1 10 := ⟨by decide +kernel, rfl⟩
theorem d_m_keep_10 : DD b_m_keep 10 (.iload 6) 2 12 := ⟨by decide +kernel, rfl⟩
theorem d_m_keep_12 : DD b_m_keep 12 (.invokestatic 76) 3 15 := ⟨by decide +kernel, rfl⟩
theorem d_m_keep_15 : DD b_m_keep 15 (.sipush 2048) 3 18 := ⟨by decide +kernel, rfl⟩
theorem d_m_keep_18 : DB b_m_keep 18 (.if_icmp .le 7) 7 21 25 := ⟨by decide +kernel, rfl, rfl⟩
theorem d_m_keep_21 : DD b_m_keep 21 (.iconst 1) 1 22 := ⟨by decide +kernel, rfl⟩
theorem d_m_keep_22 : DB b_m_keep 22 (.goto 4) 4 25 26 := ⟨by decide +kernel, rfl, rfl⟩
theorem d_m_keep_25 : DD b_m_keep 25 (.iconst 0) 1 26 := ⟨by decide +kernel, rfl⟩
theorem d_m_keep_26 : DD b_m_keep 26 (.iload 5) 2 28 := ⟨by decide +kernel, rfl⟩
theorem d_m_keep_28 : DD b_m_keep 28 (.invokevirtual 79) 3 31 := ⟨by decide +kernel, rfl⟩
theorem d_m_keep_31 : DB b_m_keep 31 (.ifCond .eq 5) 5 34 36 := ⟨by decide +kernel, rfl, rfl⟩
theorem d_m_keep_34 : DD b_m_keep 34 (.iconst 0) 1 35 := ⟨by decide +kernel, rfl⟩
theorem d_m_keep_35 : DD b_m_keep 35 .ireturn 1 36 := ⟨by decide +kernel, rfl⟩
theorem d_m_keep_36 : DD b_m_keep 36 (.iconst 0) 1 37 := ⟨by decide +kernel, rfl⟩
theorem d_m_keep_37 : DD b_m_keep 37 (.istore 7) 2 39 := ⟨by decide +kernel, rfl⟩
theorem d_m_keep_39 : DD b_m_keep 39 (.iload 7) 2 41 := ⟨by decide +kernel, rfl⟩
theorem d_m_keep_41 : DD b_m_keep 41 (.iload 6) 2 43 := ⟨by decide +kernel, rfl⟩
theorem d_m_keep_43 : DB b_m_keep 43 (.if_icmp .ge 26) 26 46 69 := ⟨by decide +kernel, rfl, rfl⟩
theorem d_m_keep_46 : DD b_m_keep 46 (.aload_n 0) 1 47 := ⟨by decide +kernel, rfl⟩
theorem d_m_keep_47 : DD b_m_keep 47 (.getfield 9) 3 50 := ⟨by decide +kernel, rfl⟩
theorem d_m_keep_50 : DD b_m_keep 50 (.sipush 129) 3 53 := ⟨by decide +kernel, rfl⟩
theorem d_m_keep_53 : DD b_m_keep 53 (.iload_n 1) 1 54 := ⟨by decide +kernel, rfl⟩
theorem d_m_keep_54 : DD b_m_keep 54 .imul 1 55 := ⟨by decide +kernel, rfl⟩
theorem d_m_keep_55 : DD b_m_keep 55 (.iload 7) 2 57 := ⟨by decide +kernel, rfl⟩
theorem d_m_keep_57 : DD b_m_keep 57 .iadd 1 58 := ⟨by decide +kernel, rfl⟩
theorem d_m_keep_58 : DD b_m_keep 58 (.aload_n 3) 1 59 := ⟨by decide +kernel, rfl⟩
theorem d_m_keep_59 : DD b_m_keep 59 (.iload 7) 2 61 := ⟨by decide +kernel, rfl⟩
theorem d_m_keep_61 : DD b_m_keep 61 .iaload 1 62 := ⟨by decide +kernel, rfl⟩
theorem d_m_keep_62 : DD b_m_keep 62 .iastore 1 63 := ⟨by decide +kernel, rfl⟩
theorem d_m_keep_63 : DD b_m_keep 63 (.iinc 7 1) 3 66 := ⟨by decide +kernel, rfl⟩
theorem d_m_keep_66 : DB b_m_keep 66 (.goto (-27)) (-27) 69 39 := ⟨by decide +kernel, rfl, rfl⟩
theorem d_m_keep_69 : DD b_m_keep 69 (.aload_n 0) 1 70 := ⟨by decide +kernel, rfl⟩
theorem d_m_keep_70 : DD b_m_keep 70 (.getfield 13) 3 73 := ⟨by decide +kernel, rfl⟩
theorem d_m_keep_73 : DD b_m_keep 73 (.iload_n 1) 1 74 := ⟨by decide +kernel, rfl⟩
theorem d_m_keep_74 : DD b_m_keep 74 (.iload 6) 2 76 := ⟨by decide +kernel, rfl⟩
theorem d_m_keep_76 : DD b_m_keep 76 .iastore 1 77 := ⟨by decide +kernel, rfl⟩
theorem d_m_keep_77 : DD b_m_keep 77 (.aload_n 0) 1 78 := ⟨by decide +kernel, rfl⟩
theorem d_m_keep_78 : DD b_m_keep 78 (.getfield 16) 3 81 := ⟨by decide +kernel, rfl⟩
theorem d_m_keep_81 : DD b_m_keep 81 (.iload_n 1) 1 82 := ⟨by decide +kernel, rfl⟩
theorem d_m_keep_82 : DD b_m_keep 82 (.iload 6) 2 84 := ⟨by decide +kernel, rfl⟩
theorem d_m_keep_84 : DB b_m_keep 84 (.ifCond .ne 7) 7 87 91 := ⟨by decide +kernel, rfl, rfl⟩
theorem d_m_keep_87 : DD b_m_keep 87 (.iconst 0) 1 88 := ⟨by decide +kernel, rfl⟩
theorem d_m_keep_88 : DB b_m_keep 88 (.goto 4) 4 91 92 := ⟨by decide +kernel, rfl, rfl⟩
theorem d_m_keep_91 : DD b_m_keep 91 (.iload_n 2) 1 92 := ⟨by decide +kernel, rfl⟩
theorem d_m_keep_92 : DD b_m_keep 92 .iastore 1 93 := ⟨by decide +kernel, rfl⟩
theorem d_m_keep_93 : DD b_m_keep 93 (.iconst 1) 1 94 := ⟨by decide +kernel, rfl⟩
theorem d_m_keep_94 : DD b_m_keep 94 .ireturn 1 95 := ⟨by decide +kernel, rfl⟩
set_option maxRecDepth 20000 in
set_option maxHeartbeats 4000000 in
theorem c_m_keep (l : Launch) (G : ZG) {p0 p1 p2 p3 p4 : Int} {σ : Mem} {K : Int → Mem → Prop} (h : wp_m_keep p0 p1 p2 p3 p4 σ K) (h_p0 : okI p0) (h_p1 : okI p1) (h_p2 : isA p2) (h_p3 : okI p3) (h_p4 : okI p4) : Ct l G y_m_keep (.code y_m_keep b_m_keep 8 (some .boolean)) { frames := 1, cells := 0, slots := 0, locals := 23 } 0 0 4 [.ref (zA G 45), .int (iI p0), .int (iI p1), .ref (zA G p2), .int (iI p3), .int (iI p4)] σ K (fun _ _ => False) := by
  unfold wp_m_keep at h
  refine Ct.ofZ [(0, .ref (zA G 45)), (1, .int (iI p0)), (2, .int (iI p1)), (3, .ref (zA G p2)), (4, .int (iI p3)), (5, .int (iI p4))] "LimbDeskModel" (by decide) rfl (Nat.le_of_ble_eq_true rfl) rfl ?_
  intro E hR hlE C hr hX
  subst hlE
  have hroom_m_bits0 : 0 + 1 ≤ (zR E).frames ∧ 8 + (4 + 11) + 0 ≤ (zR E).locals ∧ 0 + 0 ≤ (zR E).cells ∧ 0 + 0 ≤ (zR E).slots := by rw [hR]; decide
  have hroom_m_fails : 0 + 1 ≤ (zR E).frames ∧ 8 + (3 + 11) + 0 ≤ (zR E).locals ∧ 0 + 0 ≤ (zR E).cells ∧ 0 + 0 ≤ (zR E).slots := by rw [hR]; decide
  have hroom_m_trim : 0 + 1 ≤ (zR E).frames ∧ 8 + (3 + 11) + 0 ≤ (zR E).locals ∧ 0 + 0 ≤ (zR E).cells ∧ 0 + 0 ≤ (zR E).slots := by rw [hR]; decide
  clear hR
  obtain ⟨Q, hQ⟩ : ∃ Q, Q = MQX G (zb E) 4 K (fun _ _ => False) (zs E) 0 0 0 0 := ⟨_, rfl⟩
  show Z E G 8 0 0 (MQX G (zb E) 4 K (fun _ _ => False) (zs E) 0 0 0 0) σ 0 [(0, .ref (zA G 45)), (1, .int (iI p0)), (2, .int (iI p1)), (3, .ref (zA G p2)), (4, .int (iI p3)), (5, .int (iI p4))] []
  rw [← hQ]
  refine z_aload_n C 3 d_m_keep_0 rfl ?_
  refine z_iload C 4 d_m_keep_1 rfl ?_
  refine z_callS C [.ref (zA G p2), .int (iI p3)] [] 2 d_m_keep_3 (c_m_trim (zl E) G h h_p2 h_p3) k_545 k_543 k_544 k_3 (by decide)  (by decide +kernel) rfl rfl (Nat.le_of_ble_eq_true rfl) hroom_m_trim (fun r1 _s27 ok2 hq => ?_) (fun _ _ hx => hx.elim)
  obtain ⟨hs_, hk_⟩ := hq
  subst hs_
  have h := hk_
  refine z_istore C [(6, .int (iI r1)), (0, .ref (zA G 45)), (1, .int (iI p0)), (2, .int (iI p1)), (3, .ref (zA G p2)), (4, .int (iI p3)), (5, .int (iI p4))] d_m_keep_6 (by decide) rfl ?_
  refine z_aload_n C 1 d_m_keep_8 rfl ?_
  refine z_aload_n C 4 d_m_keep_9 rfl ?_
  refine z_iload C 0 d_m_keep_10 rfl ?_
  refine z_callS C [.ref (zA G p2), .int (iI r1)] [.ref (zA G 45)] 2 d_m_keep_12 (c_m_bits0 (zl E) G h h_p2 ok2) k_537 k_535 k_536 k_3 (by decide)  (by decide +kernel) rfl rfl (Nat.le_of_ble_eq_true rfl) hroom_m_bits0 (fun r3 _s26 ok4 hq => ?_) (fun _ _ hx => hx.elim)
  obtain ⟨hs_, hk_⟩ := hq
  subst hs_
  have h := hk_
  refine z_sipush C d_m_keep_15 (by decide) ?_
  have hj : ∀ s6 : Int, s6 = (if r3 ≤ 2048 then 0 else 1) → Z E G 8 0 0 Q σ 26 [(6, .int (iI r1)), (0, .ref (zA G 45)), (1, .int (iI p0)), (2, .int (iI p1)), (3, .ref (zA G p2)), (4, .int (iI p3)), (5, .int (iI p4))] [.int (iI s6), .ref (zA G 45)] := by
    intro s6 e7
    have h := h s6 e7
    have ok8 : okI s6 := by rw [e7]; split; exact (okI_lit rfl); exact (okI_lit rfl)
    refine z_iload C 6 d_m_keep_26 rfl ?_
    refine z_callV C "LimbDeskModel" [.int (iI s6), .int (iI p4)] [] 2 d_m_keep_28 (c_m_fails (zl E) G h ok8 h_p4) k_526 k_523 k_525 k_s6 k_3 (by decide) (recv_M C) (by decide +kernel) rfl rfl (Nat.le_of_ble_eq_true rfl) hroom_m_fails (fun r9 σ10 ok11 hq => ?_) (fun _ _ hx => hx.elim)
    have h := hq
    refine z_if_eq C d_m_keep_31 (okI_b ok11) (fun hb12 => ?_) (fun hb12 => ?_)
    · have h := h.1 hb12
      refine z_iconst C d_m_keep_36 ?_
      refine z_istore C [(7, .int (iI 0)), (6, .int (iI r1)), (0, .ref (zA G 45)), (1, .int (iI p0)), (2, .int (iI p1)), (3, .ref (zA G p2)), (4, .int (iI p3)), (5, .int (iI p4))] d_m_keep_37 (by decide) rfl ?_
      refine z_sub [(0, .ref (zA G 45)), (1, .int (iI p0)), (2, .int (iI p1)), (3, .ref (zA G p2)), (6, .int (iI r1)), (7, .int (iI 0))] [2, 3, 4, 5, 1, 0] rfl ?_
      refine (Lo1.walk (P := fun v7_13 σ14 => okI v7_13 → Z E G 8 0 0 Q σ14 39 [(0, .ref (zA G 45)), (1, .int (iI p0)), (2, .int (iI p1)), (3, .ref (zA G p2)), (6, .int (iI r1)), (7, .int (iI v7_13))] []) ?_ h) (okI_lit rfl)
      intro v7_13 σ14 again16 Hagain16 h ok15
      refine z_iload C 5 d_m_keep_39 rfl ?_
      refine z_iload C 4 d_m_keep_41 rfl ?_
      refine z_icmp_ge C d_m_keep_43 ok15 ok2 (fun hb17 => ?_) (fun hb17 => ?_)
      · have h := h.1 hb17
        refine z_aload_n C 0 d_m_keep_69 rfl ?_
        refine z_mget C 3 d_m_keep_70 (by decide) k_463 rfl rfl ?_
        refine z_iload_n C 1 d_m_keep_73 rfl ?_
        refine z_iload C 4 d_m_keep_74 rfl ?_
        obtain ⟨hc18, h⟩ := h
        refine z_iastN C (16) d_m_keep_76 (Or.inr ⟨by decide, by decide⟩) (by decide) hc18 ?_
        refine z_aload_n C 0 d_m_keep_77 rfl ?_
        refine z_mget C 4 d_m_keep_78 (by decide) k_464 rfl rfl ?_
        refine z_iload_n C 1 d_m_keep_81 rfl ?_
        refine z_iload C 4 d_m_keep_82 rfl ?_
        have hj : ∀ s20 : Int, s20 = (if r1 ≠ 0 then p1 else 0) → Z E G 8 0 0 Q (mS σ14 47 p0 r1) 92 [(0, .ref (zA G 45)), (1, .int (iI p0)), (2, .int (iI p1)), (3, .ref (zA G p2)), (6, .int (iI r1)), (7, .int (iI v7_13))] [.int (iI s20), .int (iI p0), .ref (zA G 48)] := by
          intro s20 e21
          have h := h s20 e21
          have ok22 : okI s20 := by rw [e21]; split; exact h_p1; exact (okI_lit rfl)
          refine z_iastN C (16) d_m_keep_92 (Or.inr ⟨by decide, by decide⟩) (by decide) hc18 ?_
          refine z_iconst C d_m_keep_93 ?_
          subst hQ
          exact z_zreturn C d_m_keep_94.1 hr ⟨Nat.zero_le _, Nat.zero_le _⟩ (Or.inr rfl) h
        clear h
        refine z_if_ne C d_m_keep_84 ok2 (fun hb19 => ?_) (fun hb19 => ?_)
        · refine z_iload_n C 2 d_m_keep_91 rfl ?_
          exact hj _ (if_pos hb19).symm
        · refine z_iconst C d_m_keep_87 ?_
          refine z_goto C d_m_keep_88 ?_
          exact hj _ (if_neg (not_not_intro hb19)).symm
      · have h := h.2 hb17
        refine z_aload_n C 0 d_m_keep_46 rfl ?_
        refine z_mget C 2 d_m_keep_47 (by decide) k_462 rfl rfl ?_
        refine z_sipush C d_m_keep_50 (by decide) ?_
        refine z_iload_n C 1 d_m_keep_53 rfl ?_
        refine z_imul C d_m_keep_54 ?_
        refine z_iload C 5 d_m_keep_55 rfl ?_
        refine z_iadd C d_m_keep_57 ?_
        refine z_aload_n C 3 d_m_keep_58 rfl ?_
        refine z_iload C 5 d_m_keep_59 rfl ?_
        obtain ⟨hc23, h⟩ := h
        refine z_ialdN C (ln p2) d_m_keep_61 h_p2 rfl hc23 ?_
        obtain ⟨hc24, h⟩ := h
        refine z_iastN C (2064) d_m_keep_62 (Or.inr ⟨by decide, by decide⟩) (by decide) hc24 ?_
        refine z_iinc C 5 [(7, .int (iI (v7_13 + 1))), (0, .ref (zA G 45)), (1, .int (iI p0)), (2, .int (iI p1)), (3, .ref (zA G p2)), (6, .int (iI r1))] d_m_keep_63 rfl (by decide) rfl ?_
        refine z_goto C d_m_keep_66 ?_
        obtain ⟨ok25, h⟩ := h
        refine z_sub [(0, .ref (zA G 45)), (1, .int (iI p0)), (2, .int (iI p1)), (3, .ref (zA G p2)), (6, .int (iI r1)), (7, .int (iI (v7_13 + 1)))] [1, 2, 3, 4, 5, 0] rfl ?_
        exact Hagain16 _ _ h ok25
    · have h := h.2 hb12
      refine z_iconst C d_m_keep_34 ?_
      subst hQ
      exact z_zreturn C d_m_keep_35.1 hr ⟨Nat.zero_le _, Nat.zero_le _⟩ (Or.inl rfl) h
  clear h
  refine z_icmp_le C d_m_keep_18 ok4 (okI_lit rfl) (fun hb5 => ?_) (fun hb5 => ?_)
  · refine z_iconst C d_m_keep_25 ?_
    exact hj _ (if_pos hb5).symm
  · refine z_iconst C d_m_keep_21 ?_
    refine z_goto C d_m_keep_22 ?_
    exact hj _ (if_neg (Int.not_le.mpr hb5)).symm
theorem d_m_set_0 : DD b_m_set 0 (.aload_n 0) 1 1 := ⟨by decide +kernel, rfl⟩
theorem d_m_set_1 : DD b_m_set 1 (.iconst 0) 1 2 := ⟨by decide +kernel, rfl⟩
theorem d_m_set_2 : DD b_m_set 2 (.putfield 49) 3 5 := ⟨by decide +kernel, rfl⟩
theorem d_m_set_5 : DD b_m_set 5 (.aload_n 0) 1 6 := ⟨by decide +kernel, rfl⟩
theorem d_m_set_6 : DD b_m_set 6 (.iload_n 1) 1 7 := ⟨by decide +kernel, rfl⟩
theorem d_m_set_7 : DD b_m_set 7 (.invokestatic 83) 3 10 := ⟨by decide +kernel, rfl⟩
theorem d_m_set_10 : DB b_m_set 10 (.ifCond .ne 7) 7 13 17 := ⟨by decide +kernel, rfl, rfl⟩
theorem d_m_set_13 : DD b_m_set 13 (.iconst 1) 1 14 := ⟨by decide +kernel, rfl⟩
theorem d_m_set_14 : DB b_m_set 14 (.goto 4) 4 17 18 := ⟨by decide +kernel, rfl, rfl⟩
theorem d_m_set_17 : DD b_m_set 17 (.iconst 0) 1 18 := ⟨by decide +kernel, rfl⟩
theorem d_m_set_18 : DD b_m_set 18 (.iconst 1) 1 19 := ⟨by decide +kernel, rfl⟩
theorem d_m_set_19 : DD b_m_set 19 (.invokevirtual 79) 3 22 := ⟨by decide +kernel, rfl⟩
theorem d_m_set_22 : DB b_m_set 22 (.ifCond .eq 5) 5 25 27 := ⟨by decide +kernel, rfl, rfl⟩
theorem d_m_set_25 : DD b_m_set 25 (.iconst 0) 1 26 := ⟨by decide +kernel, rfl⟩
theorem d_m_set_26 : DD b_m_set 26 .ireturn 1 27 := ⟨by decide +kernel, rfl⟩
theorem d_m_set_27 : DD b_m_set 27 (.aload_n 0) 1 28 := ⟨by decide +kernel, rfl⟩
theorem d_m_set_28 : DD b_m_set 28 (.iload_n 1) 1 29 := ⟨by decide +kernel, rfl⟩
theorem d_m_set_29 : DD b_m_set 29 (.invokevirtual 87) 3 32 := ⟨by decide +kernel, rfl⟩
theorem d_m_set_32 : DD b_m_set 32 (.istore 4) 2 34 := ⟨by decide +kernel, rfl⟩
theorem d_m_set_34 : DD b_m_set 34 (.iconst 0) 1 35 := ⟨by decide +kernel, rfl⟩
theorem d_m_set_35 : DD b_m_set 35 (.istore 5) 2 37 := ⟨by decide +kernel, rfl⟩
theorem d_m_set_37 : DD b_m_set 37 (.lload_n 2) 1 38 := ⟨by decide +kernel, rfl⟩
theorem d_m_set_38 : DD b_m_set 38 (.lconst 0) 1 39 := ⟨by decide +kernel, rfl⟩
theorem d_m_set_39 : DD b_m_set 39 .lcmp 1 40 := ⟨by decide +kernel, rfl⟩
theorem d_m_set_40 : DB b_m_set 40 (.ifCond .ge 8) 8 43 48 := ⟨by decide +kernel, rfl, rfl⟩
theorem d_m_set_43 : DD b_m_set 43 (.lload_n 2) 1 44 := ⟨by decide +kernel, rfl⟩
theorem d_m_set_44 : DD b_m_set 44 .lneg 1 45 := ⟨by decide +kernel, rfl⟩
theorem d_m_set_45 : DB b_m_set 45 (.goto 4) 4 48 49 := ⟨by decide +kernel, rfl, rfl⟩
theorem d_m_set_48 : DD b_m_set 48 (.lload_n 2) 1 49 := ⟨by decide +kernel, rfl⟩
theorem d_m_set_49 : DD b_m_set 49 (.lstore 6) 2 51 := ⟨by decide +kernel, rfl⟩
theorem d_m_set_51 : DD b_m_set 51 (.lload 6) 2 53 := ⟨by decide +kernel, rfl⟩
theorem d_m_set_53 : DD b_m_set 53 (.lconst 0) 1 54 := ⟨by decide +kernel, rfl⟩
theorem d_m_set_54 : DD b_m_set 54 .lcmp 1 55 := ⟨by decide +kernel, rfl⟩
theorem d_m_set_55 : DB b_m_set 55 (.ifCond .eq 30) 30 58 85 := ⟨by decide +kernel, rfl, rfl⟩
theorem d_m_set_58 : DD b_m_set 58 (.aload_n 0) 1 59 := ⟨by decide +kernel, rfl⟩
theorem d_m_set_59 : DD b_m_set 59 (.getfield 22) 3 62 := ⟨by decide +kernel, rfl⟩
theorem d_m_set_62 : DD b_m_set 62 (.iload 5) 2 64 := ⟨by decide +kernel, rfl⟩
theorem d_m_set_64 : DD b_m_set 64 (.iinc 5 1) 3 67 := ⟨by decide +kernel, rfl⟩
theorem d_m_set_67 : DD b_m_set 67 (.lload 6) 2 69 := ⟨by decide +kernel, rfl⟩
theorem d_m_set_69 : DD b_m_set 69 (.ldc2_w 58) 3 72 := ⟨by decide +kernel, rfl⟩
theorem d_m_set_72 : DD b_m_set 72 .land 1 73 := ⟨by decide +kernel, rfl⟩
theorem d_m_set_73 : DD b_m_set 73 .l2i 1 74 := ⟨by decide +kernel, rfl⟩
theorem d_m_set_74 : DD b_m_set 74 .iastore 1 75 := ⟨by decide +kernel, rfl⟩
theorem d_m_set_75 : DD b_m_set 75 (.lload 6) 2 77 := ⟨by decide +kernel, rfl⟩
theorem d_m_set_77 : DD b_m_set 77 (.bipush 16) 2 79 := ⟨by decide +kernel, rfl⟩
theorem d_m_set_79 : DD b_m_set 79 .lushr 1 80 := ⟨by decide +kernel, rfl⟩
theorem d_m_set_80 : DD b_m_set 80 (.lstore 6) 2 82 := ⟨by decide +kernel, rfl⟩
theorem d_m_set_82 : DB b_m_set 82 (.goto (-31)) (-31) 85 51 := ⟨by decide +kernel, rfl, rfl⟩
theorem d_m_set_85 : DD b_m_set 85 (.aload_n 0) 1 86 := ⟨by decide +kernel, rfl⟩
theorem d_m_set_86 : DD b_m_set 86 (.iload_n 1) 1 87 := ⟨by decide +kernel, rfl⟩
theorem d_m_set_87 : DD b_m_set 87 (.lload_n 2) 1 88 := ⟨by decide +kernel, rfl⟩
theorem d_m_set_88 : DD b_m_set 88 (.lconst 0) 1 89 := ⟨by decide +kernel, rfl⟩
theorem d_m_set_89 : DD b_m_set 89 .lcmp 1 90 := ⟨by decide +kernel, rfl⟩
theorem d_m_set_90 : DB b_m_set 90 (.ifCond .ge 7) 7 93 97 := ⟨by decide +kernel, rfl, rfl⟩
theorem d_m_set_93 : DD b_m_set 93 (.iconst (-1)) 1 94 := ⟨by decide +kernel, rfl⟩
theorem d_m_set_94 : DB b_m_set 94 (.goto 4) 4 97 98 := ⟨by decide +kernel, rfl, rfl⟩
theorem d_m_set_97 : DD b_m_set 97 (.iconst 1) 1 98 := ⟨by decide +kernel, rfl⟩
theorem d_m_set_98 : DD b_m_set 98 (.aload_n 0) 1 99 := ⟨by decide +kernel, rfl⟩
theorem d_m_set_99 : DD b_m_set 99 (.getfield 22) 3 102 := ⟨by decide +kernel, rfl⟩
theorem d_m_set_102 : DD b_m_set 102 (.iload 5) 2 104 := ⟨by decide +kernel, rfl⟩
theorem d_m_set_104 : DD b_m_set 104 (.bipush 9) 2 106 := ⟨by decide +kernel, rfl⟩
theorem d_m_set_106 : DD b_m_set 106 (.invokevirtual 91) 3 109 := ⟨by decide +kernel, rfl⟩
theorem d_m_set_109 : DD b_m_set 109 .pop 1 110 := ⟨by decide +kernel, rfl⟩
theorem d_m_set_110 : DD b_m_set 110 (.iload 4) 2 112 := ⟨by decide +kernel, rfl⟩
theorem d_m_set_112 : DD b_m_set 112 .ireturn 1 113 := ⟨by decide +kernel, rfl⟩
set_option maxRecDepth 20000 in
set_option maxHeartbeats 4000000 in
theorem c_m_set (l : Launch) (G : ZG) {p0 p1 : Int} {σ : Mem} {K : Int → Mem → Prop} (h : wp_m_set p0 p1 σ K) (h_p0 : okI p0) (h_p1 : okL p1) : Ct l G y_m_set (.code y_m_set b_m_set 8 (some .int)) { frames := 2, cells := 0, slots := 0, locals := 50 } 0 0 1 [.ref (zA G 45), .int (iI p0), .long (lL p1)] σ K (fun _ _ => False) := by
  unfold wp_m_set at h
  refine Ct.ofZ [(0, .ref (zA G 45)), (1, .int (iI p0)), (2, .long (lL p1))] "LimbDeskModel" (by decide) rfl (Nat.le_of_ble_eq_true rfl) rfl ?_
  intro E hR hlE C hr hX
  subst hlE
  have hroom_m_fails : 0 + 1 ≤ (zR E).frames ∧ 8 + (3 + 11) + 0 ≤ (zR E).locals ∧ 0 + 0 ≤ (zR E).cells ∧ 0 + 0 ≤ (zR E).slots := by rw [hR]; decide
  have hroom_m_isRegister : 1 + 1 ≤ (zR E).frames ∧ 8 + (1 + 11) + 22 ≤ (zR E).locals ∧ 0 + 0 ≤ (zR E).cells ∧ 0 + 0 ≤ (zR E).slots := by rw [hR]; decide
  have hroom_m_keep : 1 + 1 ≤ (zR E).frames ∧ 8 + (8 + 11) + 23 ≤ (zR E).locals ∧ 0 + 0 ≤ (zR E).cells ∧ 0 + 0 ≤ (zR E).slots := by rw [hR]; decide
  have hroom_m_size0 : 1 + 1 ≤ (zR E).frames ∧ 8 + (3 + 11) + 23 ≤ (zR E).locals ∧ 0 + 0 ≤ (zR E).cells ∧ 0 + 0 ≤ (zR E).slots := by rw [hR]; decide
  clear hR
  obtain ⟨Q, hQ⟩ : ∃ Q, Q = MQX G (zb E) 1 K (fun _ _ => False) (zs E) 0 0 0 0 := ⟨_, rfl⟩
  show Z E G 8 0 0 (MQX G (zb E) 1 K (fun _ _ => False) (zs E) 0 0 0 0) σ 0 [(0, .ref (zA G 45)), (1, .int (iI p0)), (2, .long (lL p1))] []
  rw [← hQ]
  refine z_aload_n C 0 d_m_set_0 rfl ?_
  refine z_iconst C d_m_set_1 ?_
  refine z_mput_err C d_m_set_2 k_460 ?_
  refine z_aload_n C 0 d_m_set_5 rfl ?_
  refine z_iload_n C 1 d_m_set_6 rfl ?_
  refine z_callS C [.int (iI p0)] [.ref (zA G 45)] 1 d_m_set_7 (c_m_isRegister (zl E) G h h_p0) k_519 k_517 k_518 k_3 (by decide)  (by decide +kernel) rfl rfl (Nat.le_of_ble_eq_true rfl) hroom_m_isRegister (fun r1 _s35 ok2 hq => ?_) (fun _ _ hx => hx.elim)
  obtain ⟨hs_, hk_⟩ := hq
  subst hs_
  have h := hk_
  have hj : ∀ s4 : Int, s4 = (if r1 ≠ 0 then 0 else 1) → Z E G 8 0 0 Q (mS σ 45 0 0) 18 [(0, .ref (zA G 45)), (1, .int (iI p0)), (2, .long (lL p1))] [.int (iI s4), .ref (zA G 45)] := by
    intro s4 e5
    have h := h s4 e5
    have ok6 : okI s4 := by rw [e5]; split; exact (okI_lit rfl); exact (okI_lit rfl)
    refine z_iconst C d_m_set_18 ?_
    refine z_callV C "LimbDeskModel" [.int (iI s4), .int (iI 1)] [] 2 d_m_set_19 (c_m_fails (zl E) G h ok6 (okI_lit rfl)) k_526 k_523 k_525 k_s6 k_3 (by decide) (recv_M C) (by decide +kernel) rfl rfl (Nat.le_of_ble_eq_true rfl) hroom_m_fails (fun r7 σ8 ok9 hq => ?_) (fun _ _ hx => hx.elim)
    have h := hq
    refine z_if_eq C d_m_set_22 (okI_b ok9) (fun hb10 => ?_) (fun hb10 => ?_)
    · have h := h.1 hb10
      refine z_aload_n C 0 d_m_set_27 rfl ?_
      refine z_iload_n C 1 d_m_set_28 rfl ?_
      refine z_callV C "LimbDeskModel" [.int (iI p0)] [] 1 d_m_set_29 (c_m_size0 (zl E) G h h_p0) k_530 k_527 k_529 k_s7 k_3 (by decide) (recv_M C) (by decide +kernel) rfl rfl (Nat.le_of_ble_eq_true rfl) hroom_m_size0 (fun r11 σ12 ok13 hq => ?_) (fun _ _ hx => hx.elim)
      have h := hq
      refine z_istore C [(4, .int (iI r11)), (0, .ref (zA G 45)), (1, .int (iI p0)), (2, .long (lL p1))] d_m_set_32 (by decide) rfl ?_
      refine z_iconst C d_m_set_34 ?_
      refine z_istore C [(5, .int (iI 0)), (4, .int (iI r11)), (0, .ref (zA G 45)), (1, .int (iI p0)), (2, .long (lL p1))] d_m_set_35 (by decide) rfl ?_
      refine z_lload_n C 4 d_m_set_37 rfl ?_
      refine z_lconst C d_m_set_38 ?_
      have hj : ∀ s15 : Int, s15 = (if 0 ≤ p1 then p1 else (-p1)) → Z E G 8 0 0 Q σ12 49 [(5, .int (iI 0)), (4, .int (iI r11)), (0, .ref (zA G 45)), (1, .int (iI p0)), (2, .long (lL p1))] [.long (lL s15)] := by
        intro s15 e16
        have h := h s15 e16
        refine z_lstore C [(6, .long (lL s15)), (5, .int (iI 0)), (4, .int (iI r11)), (0, .ref (zA G 45)), (1, .int (iI p0)), (2, .long (lL p1))] d_m_set_49 (by decide) rfl ?_
        refine z_sub [(0, .ref (zA G 45)), (1, .int (iI p0)), (2, .long (lL p1)), (4, .int (iI r11)), (5, .int (iI 0)), (6, .long (lL s15))] [3, 4, 5, 2, 1, 0] rfl ?_
        refine (Lo2.walk (P := fun v5_17 v6_18 σ19 => okI v5_17 → Z E G 8 0 0 Q σ19 51 [(0, .ref (zA G 45)), (1, .int (iI p0)), (2, .long (lL p1)), (4, .int (iI r11)), (5, .int (iI v5_17)), (6, .long (lL v6_18))] []) ?_ h) (okI_lit rfl)
        intro v5_17 v6_18 σ19 again21 Hagain21 h ok20
        refine z_lload C 5 d_m_set_51 rfl ?_
        refine z_lconst C d_m_set_53 ?_
        obtain ⟨ok22, h⟩ := h
        refine z_lcmp_eq0 C d_m_set_54 d_m_set_55 ok22 (fun hb23 => ?_) (fun hb23 => ?_)
        · have h := h.1 hb23
          refine z_aload_n C 0 d_m_set_85 rfl ?_
          refine z_iload_n C 1 d_m_set_86 rfl ?_
          refine z_lload_n C 2 d_m_set_87 rfl ?_
          refine z_lconst C d_m_set_88 ?_
          have hj : ∀ s25 : Int, s25 = (if 0 ≤ p1 then 1 else (-1)) → Z E G 8 0 0 Q σ19 98 [(0, .ref (zA G 45)), (1, .int (iI p0)), (2, .long (lL p1)), (4, .int (iI r11)), (5, .int (iI v5_17)), (6, .long (lL v6_18))] [.int (iI s25), .int (iI p0), .ref (zA G 45)] := by
            intro s25 e26
            have h := h s25 e26
            have ok27 : okI s25 := by rw [e26]; split; exact (okI_lit rfl); exact (okI_lit rfl)
            refine z_aload_n C 0 d_m_set_98 rfl ?_
            refine z_mget C 6 d_m_set_99 (by decide) k_466 rfl rfl ?_
            refine z_iload C 4 d_m_set_102 rfl ?_
            refine z_bipush C d_m_set_104 (by decide) ?_
            refine z_callV C "LimbDeskModel" [.int (iI p0), .int (iI s25), .ref (zA G 50), .int (iI v5_17), .int (iI 9)] [] 5 d_m_set_106 (c_m_keep (zl E) G h h_p0 ok27 (Or.inr ⟨by decide, by decide⟩) ok20 (okI_lit rfl)) k_542 k_539 k_541 k_s9 k_3 (by decide) (recv_M C) (by decide +kernel) rfl rfl (Nat.le_of_ble_eq_true rfl) hroom_m_keep (fun r28 σ29 ok30 hq => ?_) (fun _ _ hx => hx.elim)
            have h := hq
            refine z_pop C d_m_set_109 rfl ?_
            refine z_iload C 3 d_m_set_110 rfl ?_
            subst hQ
            exact z_ireturn C d_m_set_112.1 hr ⟨Nat.zero_le _, Nat.zero_le _⟩ ok13 h
          clear h
          refine z_lcmp_ge C d_m_set_89 d_m_set_90 h_p1 (okL_lit rfl) (fun hb24 => ?_) (fun hb24 => ?_)
          · refine z_iconst C d_m_set_97 ?_
            exact hj _ (if_pos hb24).symm
          · refine z_iconst C d_m_set_93 ?_
            refine z_goto C d_m_set_94 ?_
            exact hj _ (if_neg (Int.not_le.mpr hb24)).symm
        · have h := h.2 hb23
          refine z_aload_n C 0 d_m_set_58 rfl ?_
          refine z_mget C 6 d_m_set_59 (by decide) k_466 rfl rfl ?_
          refine z_iload C 4 d_m_set_62 rfl ?_
          refine z_iinc C 4 [(5, .int (iI (v5_17 + 1))), (0, .ref (zA G 45)), (1, .int (iI p0)), (2, .long (lL p1)), (4, .int (iI r11)), (6, .long (lL v6_18))] d_m_set_64 rfl (by decide) rfl ?_
          refine z_lload C 5 d_m_set_67 rfl ?_
          refine z_ldc2 C d_m_set_69 k_538 (n := 65535) (by decide) ?_
          refine z_lmask C 16 65536 d_m_set_72 (by decide) (by decide) (by decide) ?_
          refine z_l2i C d_m_set_73 ?_
          obtain ⟨hc31, h⟩ := h
          refine z_iastN C (9000) d_m_set_74 (Or.inr ⟨by decide, by decide⟩) (by decide) hc31 ?_
          refine z_lload C 5 d_m_set_75 rfl ?_
          refine z_bipush C d_m_set_77 (by decide) ?_
          refine z_lushrK C 65536 d_m_set_79 (by decide) ⟨by decide, by decide⟩ ?_
          refine z_namel (fun v6_32 e33 => ?_)
          have h := h v6_32 e33
          refine z_lstore C [(6, .long (lL v6_32)), (5, .int (iI (v5_17 + 1))), (0, .ref (zA G 45)), (1, .int (iI p0)), (2, .long (lL p1)), (4, .int (iI r11))] d_m_set_80 (by decide) rfl ?_
          refine z_goto C d_m_set_82 ?_
          obtain ⟨ok34, h⟩ := h
          refine z_sub [(0, .ref (zA G 45)), (1, .int (iI p0)), (2, .long (lL p1)), (4, .int (iI r11)), (5, .int (iI (v5_17 + 1))), (6, .long (lL v6_32))] [2, 3, 4, 5, 1, 0] rfl ?_
          exact Hagain21 _ _ _ h ok34
      clear h
      refine z_lcmp_ge C d_m_set_39 d_m_set_40 h_p1 (okL_lit rfl) (fun hb14 => ?_) (fun hb14 => ?_)
      · refine z_lload_n C 4 d_m_set_48 rfl ?_
        exact hj _ (if_pos hb14).symm
      · refine z_lload_n C 4 d_m_set_43 rfl ?_
        refine z_lneg C d_m_set_44 ?_
        refine z_goto C d_m_set_45 ?_
        exact hj _ (if_neg (Int.not_le.mpr hb14)).symm
    · have h := h.2 hb10
      refine z_iconst C d_m_set_25 ?_
      subst hQ
      exact z_ireturn C d_m_set_26.1 hr ⟨Nat.zero_le _, Nat.zero_le _⟩ (okI_lit rfl) h
  clear h
  refine z_if_ne C d_m_set_10 (okI_b ok2) (fun hb3 => ?_) (fun hb3 => ?_)
  · refine z_iconst C d_m_set_17 ?_
    exact hj _ (if_pos hb3).symm
  · refine z_iconst C d_m_set_13 ?_
    refine z_goto C d_m_set_14 ?_
    exact hj _ (if_neg (not_not_intro hb3)).symm
theorem d_m_line_0 : DD b_m_line 0 (.aload_n 0) 1 1 := ⟨by decide +kernel, rfl⟩
theorem d_m_line_1 : DD b_m_line 1 (.iconst 0) 1 2 := ⟨by decide +kernel, rfl⟩
theorem d_m_line_2 : DD b_m_line 2 (.putfield 49) 3 5 := ⟨by decide +kernel, rfl⟩
theorem d_m_line_5 : DD b_m_line 5 (.iconst 0) 1 6 := ⟨by decide +kernel, rfl⟩
theorem d_m_line_6 : DD b_m_line 6 (.istore_n 3) 1 7 := ⟨by decide +kernel, rfl⟩
theorem d_m_line_7 : DD b_m_line 7 (.iconst 0) 1 8 := ⟨by decide +kernel, rfl⟩
theorem d_m_line_8 : DD b_m_line 8 (.istore 4) 2 10 := ⟨by decide +kernel, rfl⟩
theorem d_m_line_10 : DD b_m_line 10 (.iload 4) 2 12 := ⟨by decide +kernel, rfl⟩
theorem d_m_line_12 : DD b_m_line 12 (.bipush 8) 2 14 := ⟨by decide +kernel, rfl⟩
theorem d_m_line_14 : DB b_m_line 14 (.if_icmp .ge 69) 69 17 83 := ⟨by decide +kernel, rfl, rfl⟩
theorem d_m_line_17 : DD b_m_line 17 (.iload_n 3) 1 18 := ⟨by decide +kernel, rfl⟩
theorem d_m_line_18 : DD b_m_line 18 (.iload 4) 2 20 := ⟨by decide +kernel, rfl⟩
theorem d_m_line_20 : DB b_m_line 20 (.if_icmp .ne 63) 63 23 83 := ⟨by decide +kernel, rfl, rfl⟩
theorem d_m_line_23 : DD b_m_line 23 (.lload_n 1) 1 24 := ⟨by decide +kernel, rfl⟩
theorem d_m_line_24 : DD b_m_line 24 (.bipush 8) 2 26 := ⟨by decide +kernel, rfl⟩
theorem d_m_line_26 : DD b_m_line 26 (.iload 4) 2 28 := ⟨by decide +kernel, rfl⟩
theorem d_m_line_28 : DD b_m_line 28 .imul 1 29 := ⟨by decide +kernel, rfl⟩
theorem d_m_line_29 : DD b_m_line 29 .lushr 1 30 := ⟨by decide +kernel, rfl⟩
theorem d_m_line_30 : DD b_m_line 30 (.ldc2_w 95) 3 33 := ⟨by decide +kernel, rfl⟩
theorem d_m_line_33 : DD b_m_line 33 .land 1 34 := ⟨by decide +kernel, rfl⟩
theorem d_m_line_34 : DD b_m_line 34 .l2i 1 35 := ⟨by decide +kernel, rfl⟩
theorem d_m_line_35 : DD b_m_line 35 (.istore 5) 2 37 := ⟨by decide +kernel, rfl⟩
theorem d_m_line_37 : DD b_m_line 37 (.aload_n 0) 1 38 := ⟨by decide +kernel, rfl⟩
theorem d_m_line_38 : DD b_m_line 38 (.iload 5) 2 40 := ⟨by decide +kernel, rfl⟩
theorem d_m_line_40 : DB b_m_line 40 (.ifCond .eq 19) 19 43 59 := ⟨by decide +kernel, rfl, rfl⟩
theorem d_m_line_43 : DD b_m_line 43 (.iload 5) 2 45 := ⟨by decide +kernel, rfl⟩
theorem d_m_line_45 : DD b_m_line 45 (.bipush 32) 2 47 := ⟨by decide +kernel, rfl⟩
theorem d_m_line_47 : DD b_m_line 47 (.bipush 126) 2 49 := ⟨by decide +kernel, rfl⟩
theorem d_m_line_49 : DD b_m_line 49 (.invokestatic 68) 3 52 := ⟨by decide +kernel, rfl⟩
theorem d_m_line_52 : DB b_m_line 52 (.ifCond .ne 7) 7 55 59 := ⟨by decide +kernel, rfl, rfl⟩
theorem d_m_line_55 : DD b_m_line 55 (.iconst 1) 1 56 := ⟨by decide +kernel, rfl⟩
theorem d_m_line_56 : DB b_m_line 56 (.goto 4) 4 59 60 := ⟨by decide +kernel, rfl, rfl⟩
theorem d_m_line_59 : DD b_m_line 59 (.iconst 0) 1 60 := ⟨by decide +kernel, rfl⟩
theorem d_m_line_60 : DD b_m_line 60 (.iconst 1) 1 61 := ⟨by decide +kernel, rfl⟩
theorem d_m_line_61 : DD b_m_line 61 (.invokevirtual 79) 3 64 := ⟨by decide +kernel, rfl⟩
theorem d_m_line_64 : DB b_m_line 64 (.ifCond .eq 5) 5 67 69 := ⟨by decide +kernel, rfl, rfl⟩
theorem d_m_line_67 : DD b_m_line 67 (.iconst 0) 1 68 := ⟨by decide +kernel, rfl⟩
theorem d_m_line_68 : DD b_m_line 68 .ireturn 1 69 := ⟨by decide +kernel, rfl⟩
theorem d_m_line_69 : DD b_m_line 69 (.iload 5) 2 71 := ⟨by decide +kernel, rfl⟩
theorem d_m_line_71 : DB b_m_line 71 (.ifCond .eq 6) 6 74 77 := ⟨by decide +kernel, rfl, rfl⟩
theorem d_m_line_74 : DD b_m_line 74 (.iinc 3 1) 3 77 := ⟨by decide +kernel, rfl⟩
theorem d_m_line_77 : DD b_m_line 77 (.iinc 4 1) 3 80 := ⟨by decide +kernel, rfl⟩
theorem d_m_line_80 : DB b_m_line 80 (.goto (-70)) (-70) 83 10 := ⟨by decide +kernel, rfl, rfl⟩
theorem d_m_line_83 : DD b_m_line 83 (.aload_n 0) 1 84 := ⟨by decide +kernel, rfl⟩
theorem d_m_line_84 : DD b_m_line 84 (.iload_n 3) 1 85 := ⟨by decide +kernel, rfl⟩
theorem d_m_line_85 : DB b_m_line 85 (.ifCond .ne 7) 7 88 92 := ⟨by decide +kernel, rfl, rfl⟩
theorem d_m_line_88 : DD b_m_line 88 (.iconst 1) 1 89 := ⟨by decide +kernel, rfl⟩
theorem d_m_line_89 : DB b_m_line 89 (.goto 4) 4 92 93 := ⟨by decide +kernel, rfl, rfl⟩
theorem d_m_line_92 : DD b_m_line 92 (.iconst 0) 1 93 := ⟨by decide +kernel, rfl⟩
theorem d_m_line_93 : DD b_m_line 93 (.iconst 1) 1 94 := ⟨by decide +kernel, rfl⟩
theorem d_m_line_94 : DD b_m_line 94 (.invokevirtual 79) 3 97 := ⟨by decide +kernel, rfl⟩
theorem d_m_line_97 : DB b_m_line 97 (.ifCond .ne 28) 28 100 125 := ⟨by decide +kernel, rfl, rfl⟩
theorem d_m_line_100 : DD b_m_line 100 (.aload_n 0) 1 101 := ⟨by decide +kernel, rfl⟩
theorem d_m_line_101 : DD b_m_line 101 (.aload_n 0) 1 102 := ⟨by decide +kernel, rfl⟩
theorem d_m_line_102 : DD b_m_line 102 (.getfield 97) 3 105 := ⟨by decide +kernel, rfl⟩
theorem d_m_line_105 : DD b_m_line 105 (.iload_n 3) 1 106 := ⟨by decide +kernel, rfl⟩
theorem d_m_line_106 : DD b_m_line 106 .iadd 1 107 := ⟨by decide +kernel, rfl⟩
theorem d_m_line_107 : DD b_m_line 107 (.sipush 2100) 3 110 := ⟨by decide +kernel, rfl⟩
theorem d_m_line_110 : DB b_m_line 110 (.if_icmp .le 7) 7 113 117 := ⟨by decide +kernel, rfl, rfl⟩
theorem d_m_line_113 : DD b_m_line 113 (.iconst 1) 1 114 := ⟨by decide +kernel, rfl⟩
theorem d_m_line_114 : DB b_m_line 114 (.goto 4) 4 117 118 := ⟨by decide +kernel, rfl, rfl⟩
theorem d_m_line_117 : DD b_m_line 117 (.iconst 0) 1 118 := ⟨by decide +kernel, rfl⟩
theorem d_m_line_118 : DD b_m_line 118 (.iconst 2) 1 119 := ⟨by decide +kernel, rfl⟩
theorem d_m_line_119 : DD b_m_line 119 (.invokevirtual 79) 3 122 := ⟨by decide +kernel, rfl⟩
theorem d_m_line_122 : DB b_m_line 122 (.ifCond .eq 5) 5 125 127 := ⟨by decide +kernel, rfl, rfl⟩
theorem d_m_line_125 : DD b_m_line 125 (.iconst 0) 1 126 := ⟨by decide +kernel, rfl⟩
theorem d_m_line_126 : DD b_m_line 126 .ireturn 1 127 := ⟨by decide +kernel, rfl⟩
theorem d_m_line_127 : DD b_m_line 127 (.iconst 0) 1 128 := ⟨by decide +kernel, rfl⟩
theorem d_m_line_128 : DD b_m_line 128 (.istore 4) 2 130 := ⟨by decide +kernel, rfl⟩
theorem d_m_line_130 : DD b_m_line 130 (.iload 4) 2 132 := ⟨by decide +kernel, rfl⟩
theorem d_m_line_132 : DD b_m_line 132 (.iload_n 3) 1 133 := ⟨by decide +kernel, rfl⟩
theorem d_m_line_133 : DB b_m_line 133 (.if_icmp .ge 33) 33 136 166 := ⟨by decide +kernel, rfl, rfl⟩
theorem d_m_line_136 : DD b_m_line 136 (.aload_n 0) 1 137 := ⟨by decide +kernel, rfl⟩
theorem d_m_line_137 : DD b_m_line 137 (.getfield 19) 3 140 := ⟨by decide +kernel, rfl⟩
theorem d_m_line_140 : DD b_m_line 140 (.aload_n 0) 1 141 := ⟨by decide +kernel, rfl⟩
theorem d_m_line_141 : DD b_m_line 141 (.getfield 97) 3 144 := ⟨by decide +kernel, rfl⟩
theorem d_m_line_144 : DD b_m_line 144 (.iload 4) 2 146 := ⟨by decide +kernel, rfl⟩
theorem d_m_line_146 : DD b_m_line 146 .iadd 1 147 := ⟨by decide +kernel, rfl⟩
theorem d_m_line_147 : DD b_m_line 147 (.lload_n 1) 1 148 := ⟨by decide +kernel, rfl⟩
theorem d_m_line_148 : DD b_m_line 148 (.bipush 8) 2 150 := ⟨by decide +kernel, rfl⟩
theorem d_m_line_150 : DD b_m_line 150 (.iload 4) 2 152 := ⟨by decide +kernel, rfl⟩
theorem d_m_line_152 : DD b_m_line 152 .imul 1 153 := ⟨by decide +kernel, rfl⟩
theorem d_m_line_153 : DD b_m_line 153 .lushr 1 154 := ⟨by decide +kernel, rfl⟩
theorem d_m_line_154 : DD b_m_line 154 (.ldc2_w 95) 3 157 := ⟨by decide +kernel, rfl⟩
theorem d_m_line_157 : DD b_m_line 157 .land 1 158 := ⟨by decide +kernel, rfl⟩
theorem d_m_line_158 : DD b_m_line 158 .l2i 1 159 := ⟨by decide +kernel, rfl⟩
theorem d_m_line_159 : DD b_m_line 159 .iastore 1 160 := ⟨by decide +kernel, rfl⟩
theorem d_m_line_160 : DD b_m_line 160 (.iinc 4 1) 3 163 := ⟨by decide +kernel, rfl⟩
theorem d_m_line_163 : DB b_m_line 163 (.goto (-33)) (-33) 166 130 := ⟨by decide +kernel, rfl, rfl⟩
theorem d_m_line_166 : DD b_m_line 166 (.aload_n 0) 1 167 := ⟨by decide +kernel, rfl⟩
theorem d_m_line_167 : DD b_m_line 167 .dup 1 168 := ⟨by decide +kernel, rfl⟩
theorem d_m_line_168 : DD b_m_line 168 (.getfield 97) 3 171 := ⟨by decide +kernel, rfl⟩
theorem d_m_line_171 : DD b_m_line 171 (.iload_n 3) 1 172 := ⟨by decide +kernel, rfl⟩
theorem d_m_line_172 : DD b_m_line 172 .iadd 1 173 := ⟨by decide +kernel, rfl⟩
theorem d_m_line_173 : DD b_m_line 173 (.putfield 97) 3 176 := ⟨by decide +kernel, rfl⟩
theorem d_m_line_176 : DD b_m_line 176 (.aload_n 0) 1 177 := ⟨by decide +kernel, rfl⟩
theorem d_m_line_177 : DD b_m_line 177 (.getfield 97) 3 180 := ⟨by decide +kernel, rfl⟩
theorem d_m_line_180 : DD b_m_line 180 .ireturn 1 181 := ⟨by decide +kernel, rfl⟩
set_option maxRecDepth 20000 in
set_option maxHeartbeats 4000000 in
theorem c_m_line (l : Launch) (G : ZG) {p0 : Int} {σ : Mem} {K : Int → Mem → Prop} (h : wp_m_line p0 σ K) (h_p0 : okL p0) : Ct l G y_m_line (.code y_m_line b_m_line 6 (some .int)) { frames := 1, cells := 0, slots := 0, locals := 22 } 0 0 1 [.ref (zA G 45), .long (lL p0)] σ K (fun _ _ => False) := by
  unfold wp_m_line at h
  refine Ct.ofZ [(0, .ref (zA G 45)), (1, .long (lL p0))] "LimbDeskModel" (by decide) rfl (Nat.le_of_ble_eq_true rfl) rfl ?_
  intro E hR hlE C hr hX
  subst hlE
  have hroom_m_fails : 0 + 1 ≤ (zR E).frames ∧ 8 + (3 + 11) + 0 ≤ (zR E).locals ∧ 0 + 0 ≤ (zR E).cells ∧ 0 + 0 ≤ (zR E).slots := by rw [hR]; decide
  have hroom_m_in : 0 + 1 ≤ (zR E).frames ∧ 8 + (3 + 11) + 0 ≤ (zR E).locals ∧ 0 + 0 ≤ (zR E).cells ∧ 0 + 0 ≤ (zR E).slots := by rw [hR]; decide
  clear hR
  obtain ⟨Q, hQ⟩ : ∃ Q, Q = MQX G (zb E) 1 K (fun _ _ => False) (zs E) 0 0 0 0 := ⟨_, rfl⟩
  show Z E G 6 0 0 (MQX G (zb E) 1 K (fun _ _ => False) (zs E) 0 0 0 0) σ 0 [(0, .ref (zA G 45)), (1, .long (lL p0))] []
  rw [← hQ]
  refine z_aload_n C 0 d_m_line_0 rfl ?_
  refine z_iconst C d_m_line_1 ?_
  refine z_mput_err C d_m_line_2 k_460 ?_
  refine z_iconst C d_m_line_5 ?_
  refine z_istore_n C [(3, .int (iI 0)), (0, .ref (zA G 45)), (1, .long (lL p0))] d_m_line_6 (by decide) rfl ?_
  refine z_iconst C d_m_line_7 ?_
  refine z_istore C [(4, .int (iI 0)), (3, .int (iI 0)), (0, .ref (zA G 45)), (1, .long (lL p0))] d_m_line_8 (by decide) rfl ?_
  refine z_sub [(0, .ref (zA G 45)), (1, .long (lL p0)), (3, .int (iI 0)), (4, .int (iI 0))] [2, 3, 1, 0] rfl ?_
  refine (Lo2.walk (P := fun v3_1 v4_2 σ3 => okI v3_1 → okI v4_2 → Z E G 6 0 0 Q σ3 10 [(0, .ref (zA G 45)), (1, .long (lL p0)), (3, .int (iI v3_1)), (4, .int (iI v4_2))] []) ?_ h) (okI_lit rfl) (okI_lit rfl)
  intro v3_1 v4_2 σ3 again6 Hagain6 h ok4 ok5
  refine z_iload C 3 d_m_line_10 rfl ?_
  refine z_bipush C d_m_line_12 (by decide) ?_
  refine Jq0.walk (Z E G 6 0 0 Q σ3 83 [(0, .ref (zA G 45)), (1, .long (lL p0)), (3, .int (iI v3_1))] []) h ?_ ?_
  · intro h
    refine z_aload_n C 0 d_m_line_83 rfl ?_
    refine z_iload_n C 2 d_m_line_84 rfl ?_
    have hj : ∀ s9 : Int, s9 = (if v3_1 ≠ 0 then 0 else 1) → Z E G 6 0 0 Q σ3 93 [(0, .ref (zA G 45)), (1, .long (lL p0)), (3, .int (iI v3_1))] [.int (iI s9), .ref (zA G 45)] := by
      intro s9 e10
      have h := h s9 e10
      have ok11 : okI s9 := by rw [e10]; split; exact (okI_lit rfl); exact (okI_lit rfl)
      refine z_iconst C d_m_line_93 ?_
      refine z_callV C "LimbDeskModel" [.int (iI s9), .int (iI 1)] [] 2 d_m_line_94 (c_m_fails (zl E) G h ok11 (okI_lit rfl)) k_526 k_523 k_525 k_s6 k_3 (by decide) (recv_M C) (by decide +kernel) rfl rfl (Nat.le_of_ble_eq_true rfl) hroom_m_fails (fun r12 σ13 ok14 hq => ?_) (fun _ _ hx => hx.elim)
      have h := hq
      refine z_if_ne C d_m_line_97 (okI_b ok14) (fun hb15 => ?_) (fun hb15 => ?_)
      · have h := h.1 hb15
        refine z_iconst C d_m_line_125 ?_
        subst hQ
        exact z_ireturn C d_m_line_126.1 hr ⟨Nat.zero_le _, Nat.zero_le _⟩ (okI_lit rfl) h
      · have h := h.2 hb15
        refine z_aload_n C 0 d_m_line_100 rfl ?_
        refine z_aload_n C 0 d_m_line_101 rfl ?_
        refine z_mget C 1 d_m_line_102 (by decide) k_461 rfl rfl ?_
        refine z_iload_n C 2 d_m_line_105 rfl ?_
        refine z_iadd C d_m_line_106 ?_
        refine z_sipush C d_m_line_107 (by decide) ?_
        obtain ⟨ok16, h⟩ := h
        have hj : ∀ s18 : Int, s18 = (if ((σ13 45 1) + v3_1) ≤ 2100 then 0 else 1) → Z E G 6 0 0 Q σ13 118 [(0, .ref (zA G 45)), (1, .long (lL p0)), (3, .int (iI v3_1))] [.int (iI s18), .ref (zA G 45)] := by
          intro s18 e19
          have h := h s18 e19
          have ok20 : okI s18 := by rw [e19]; split; exact (okI_lit rfl); exact (okI_lit rfl)
          refine z_iconst C d_m_line_118 ?_
          refine z_callV C "LimbDeskModel" [.int (iI s18), .int (iI 2)] [] 2 d_m_line_119 (c_m_fails (zl E) G h ok20 (okI_lit rfl)) k_526 k_523 k_525 k_s6 k_3 (by decide) (recv_M C) (by decide +kernel) rfl rfl (Nat.le_of_ble_eq_true rfl) hroom_m_fails (fun r21 σ22 ok23 hq => ?_) (fun _ _ hx => hx.elim)
          have h := hq
          refine z_if_eq C d_m_line_122 (okI_b ok23) (fun hb24 => ?_) (fun hb24 => ?_)
          · have h := h.1 hb24
            refine z_iconst C d_m_line_127 ?_
            refine z_istore C [(4, .int (iI 0)), (0, .ref (zA G 45)), (1, .long (lL p0)), (3, .int (iI v3_1))] d_m_line_128 (by decide) rfl ?_
            refine z_sub [(0, .ref (zA G 45)), (1, .long (lL p0)), (3, .int (iI v3_1)), (4, .int (iI 0))] [1, 2, 3, 0] rfl ?_
            refine (Lo1.walk (P := fun v4_25 σ26 => okI v4_25 → Z E G 6 0 0 Q σ26 130 [(0, .ref (zA G 45)), (1, .long (lL p0)), (3, .int (iI v3_1)), (4, .int (iI v4_25))] []) ?_ h) (okI_lit rfl)
            intro v4_25 σ26 again28 Hagain28 h ok27
            refine z_iload C 3 d_m_line_130 rfl ?_
            refine z_iload_n C 2 d_m_line_132 rfl ?_
            refine z_icmp_ge C d_m_line_133 ok27 ok4 (fun hb29 => ?_) (fun hb29 => ?_)
            · have h := h.1 hb29
              refine z_aload_n C 0 d_m_line_166 rfl ?_
              refine z_dup C d_m_line_167 rfl ?_
              refine z_mget C 1 d_m_line_168 (by decide) k_461 rfl rfl ?_
              refine z_iload_n C 2 d_m_line_171 rfl ?_
              refine z_iadd C d_m_line_172 ?_
              refine z_mput_length C d_m_line_173 k_461 ?_
              refine z_aload_n C 0 d_m_line_176 rfl ?_
              refine z_mget C 1 d_m_line_177 (by decide) k_461 rfl rfl ?_
              obtain ⟨ok30, h⟩ := h
              subst hQ
              exact z_ireturn C d_m_line_180.1 hr ⟨Nat.zero_le _, Nat.zero_le _⟩ ok30 h
            · have h := h.2 hb29
              refine z_aload_n C 0 d_m_line_136 rfl ?_
              refine z_mget C 5 d_m_line_137 (by decide) k_465 rfl rfl ?_
              refine z_aload_n C 0 d_m_line_140 rfl ?_
              refine z_mget C 1 d_m_line_141 (by decide) k_461 rfl rfl ?_
              refine z_iload C 3 d_m_line_144 rfl ?_
              refine z_iadd C d_m_line_146 ?_
              refine z_lload_n C 1 d_m_line_147 rfl ?_
              refine z_bipush C d_m_line_148 (by decide) ?_
              refine z_iload C 3 d_m_line_150 rfl ?_
              refine z_imul C d_m_line_152 ?_
              obtain ⟨hc31, h⟩ := h
              refine z_lushr C d_m_line_153 hc31 ?_
              refine z_ldc2 C d_m_line_154 k_550 (n := 255) (by decide) ?_
              refine z_lmask C 8 256 d_m_line_157 (by decide) (by decide) (by decide) ?_
              refine z_l2i C d_m_line_158 ?_
              obtain ⟨hc32, h⟩ := h
              refine z_iastN C (2100) d_m_line_159 (Or.inr ⟨by decide, by decide⟩) (by decide) hc32 ?_
              refine z_iinc C 3 [(4, .int (iI (v4_25 + 1))), (0, .ref (zA G 45)), (1, .long (lL p0)), (3, .int (iI v3_1))] d_m_line_160 rfl (by decide) rfl ?_
              refine z_goto C d_m_line_163 ?_
              obtain ⟨ok33, h⟩ := h
              refine z_sub [(0, .ref (zA G 45)), (1, .long (lL p0)), (3, .int (iI v3_1)), (4, .int (iI (v4_25 + 1)))] [1, 2, 3, 0] rfl ?_
              exact Hagain28 _ _ h ok33
          · have h := h.2 hb24
            refine z_iconst C d_m_line_125 ?_
            subst hQ
            exact z_ireturn C d_m_line_126.1 hr ⟨Nat.zero_le _, Nat.zero_le _⟩ (okI_lit rfl) h
        clear h
        refine z_icmp_le C d_m_line_110 ok16 (okI_lit rfl) (fun hb17 => ?_) (fun hb17 => ?_)
        · refine z_iconst C d_m_line_117 ?_
          exact hj _ (if_pos hb17).symm
        · refine z_iconst C d_m_line_113 ?_
          refine z_goto C d_m_line_114 ?_
          exact hj _ (if_neg (Int.not_le.mpr hb17)).symm
    clear h
    refine z_if_ne C d_m_line_85 ok4 (fun hb8 => ?_) (fun hb8 => ?_)
    · refine z_iconst C d_m_line_92 ?_
      exact hj _ (if_pos hb8).symm
    · refine z_iconst C d_m_line_88 ?_
      refine z_goto C d_m_line_89 ?_
      exact hj _ (if_neg (not_not_intro hb8)).symm
  · intro J7 HJ7 h
    refine z_icmp_ge C d_m_line_14 ok5 (okI_lit rfl) (fun hb34 => ?_) (fun hb34 => ?_)
    · have h := h.1 hb34
      refine z_sub [(0, .ref (zA G 45)), (1, .long (lL p0)), (3, .int (iI v3_1))] [0, 1, 2] rfl ?_
      exact HJ7 h
    · have h := h.2 hb34
      refine z_iload_n C 2 d_m_line_17 rfl ?_
      refine z_iload C 3 d_m_line_18 rfl ?_
      refine z_icmp_ne C d_m_line_20 ok4 ok5 (fun hb35 => ?_) (fun hb35 => ?_)
      · have h := h.1 hb35
        refine z_sub [(0, .ref (zA G 45)), (1, .long (lL p0)), (3, .int (iI v3_1))] [0, 1, 2] rfl ?_
        exact HJ7 h
      · have h := h.2 hb35
        refine z_lload_n C 1 d_m_line_23 rfl ?_
        refine z_bipush C d_m_line_24 (by decide) ?_
        refine z_iload C 3 d_m_line_26 rfl ?_
        refine z_imul C d_m_line_28 ?_
        obtain ⟨hc36, h⟩ := h
        refine z_lushr C d_m_line_29 hc36 ?_
        refine z_ldc2 C d_m_line_30 k_550 (n := 255) (by decide) ?_
        refine z_lmask C 8 256 d_m_line_33 (by decide) (by decide) (by decide) ?_
        refine z_l2i C d_m_line_34 ?_
        refine z_namei (fun v5_37 e38 => ?_)
        have h := h v5_37 e38
        have ok39 : okI v5_37 := by rw [e38]; exact (okI_mod (by decide) (by decide))
        refine z_istore C [(5, .int (iI v5_37)), (0, .ref (zA G 45)), (1, .long (lL p0)), (3, .int (iI v3_1)), (4, .int (iI v4_2))] d_m_line_35 (by decide) rfl ?_
        refine z_aload_n C 1 d_m_line_37 rfl ?_
        refine z_iload C 0 d_m_line_38 rfl ?_
        refine Jq1.walk (fun s40 => okI s40 → Z E G 6 0 0 Q σ3 60 [(0, .ref (zA G 45)), (1, .long (lL p0)), (3, .int (iI v3_1)), (4, .int (iI v4_2)), (5, .int (iI v5_37))] [.int (iI s40), .ref (zA G 45)]) h ?_ ?_
        · intro s40 h ok41
          refine z_iconst C d_m_line_60 ?_
          refine z_callV C "LimbDeskModel" [.int (iI s40), .int (iI 1)] [] 2 d_m_line_61 (c_m_fails (zl E) G h ok41 (okI_lit rfl)) k_526 k_523 k_525 k_s6 k_3 (by decide) (recv_M C) (by decide +kernel) rfl rfl (Nat.le_of_ble_eq_true rfl) hroom_m_fails (fun r43 σ44 ok45 hq => ?_) (fun _ _ hx => hx.elim)
          have h := hq
          refine z_if_eq C d_m_line_64 (okI_b ok45) (fun hb46 => ?_) (fun hb46 => ?_)
          · have h := h.1 hb46
            refine z_iload C 4 d_m_line_69 rfl ?_
            refine Jq1.walk (fun v3_47 => okI v3_47 → Z E G 6 0 0 Q σ44 77 [(0, .ref (zA G 45)), (1, .long (lL p0)), (3, .int (iI v3_47)), (4, .int (iI v4_2))] []) h ?_ ?_
            · intro v3_47 h ok48
              refine z_iinc C 3 [(4, .int (iI (v4_2 + 1))), (0, .ref (zA G 45)), (1, .long (lL p0)), (3, .int (iI v3_47))] d_m_line_77 rfl (by decide) rfl ?_
              refine z_goto C d_m_line_80 ?_
              obtain ⟨ok50, h⟩ := h
              refine z_sub [(0, .ref (zA G 45)), (1, .long (lL p0)), (3, .int (iI v3_47)), (4, .int (iI (v4_2 + 1)))] [1, 2, 3, 0] rfl ?_
              exact Hagain6 _ _ _ h ok48 ok50
            · intro J49 HJ49 h
              refine z_if_eq C d_m_line_71 ok39 (fun hb51 => ?_) (fun hb51 => ?_)
              · have h := h.1 hb51
                refine z_sub [(0, .ref (zA G 45)), (1, .long (lL p0)), (3, .int (iI v3_1)), (4, .int (iI v4_2))] [0, 1, 2, 3] rfl ?_
                exact HJ49 _ h ok4
              · have h := h.2 hb51
                refine z_iinc C 2 [(3, .int (iI (v3_1 + 1))), (0, .ref (zA G 45)), (1, .long (lL p0)), (4, .int (iI v4_2)), (5, .int (iI v5_37))] d_m_line_74 rfl (by decide) rfl ?_
                obtain ⟨ok52, h⟩ := h
                refine z_sub [(0, .ref (zA G 45)), (1, .long (lL p0)), (3, .int (iI (v3_1 + 1))), (4, .int (iI v4_2))] [1, 2, 0, 3] rfl ?_
                exact HJ49 _ h ok52
          · have h := h.2 hb46
            refine z_iconst C d_m_line_67 ?_
            subst hQ
            exact z_ireturn C d_m_line_68.1 hr ⟨Nat.zero_le _, Nat.zero_le _⟩ (okI_lit rfl) h
        · intro J42 HJ42 h
          refine Jq0.walk (Z E G 6 0 0 Q σ3 59 [(0, .ref (zA G 45)), (1, .long (lL p0)), (3, .int (iI v3_1)), (4, .int (iI v4_2)), (5, .int (iI v5_37))] [.ref (zA G 45)]) h ?_ ?_
          · intro h
            refine z_iconst C d_m_line_59 ?_
            refine z_sub [(0, .ref (zA G 45)), (1, .long (lL p0)), (3, .int (iI v3_1)), (4, .int (iI v4_2)), (5, .int (iI v5_37))] [0, 1, 2, 3, 4] rfl ?_
            exact HJ42 _ h (okI_lit rfl)
          · intro J53 HJ53 h
            refine z_if_eq C d_m_line_40 ok39 (fun hb54 => ?_) (fun hb54 => ?_)
            · have h := h.1 hb54
              refine z_sub [(0, .ref (zA G 45)), (1, .long (lL p0)), (3, .int (iI v3_1)), (4, .int (iI v4_2)), (5, .int (iI v5_37))] [1, 2, 3, 4, 0] rfl ?_
              exact HJ53 h
            · have h := h.2 hb54
              refine z_iload C 0 d_m_line_43 rfl ?_
              refine z_bipush C d_m_line_45 (by decide) ?_
              refine z_bipush C d_m_line_47 (by decide) ?_
              refine z_callS C [.int (iI v5_37), .int (iI 32), .int (iI 126)] [.ref (zA G 45)] 3 d_m_line_49 (c_m_in (zl E) G h ok39 (okI_lit rfl) (okI_lit rfl)) k_522 k_520 k_521 k_3 (by decide)  (by decide +kernel) rfl rfl (Nat.le_of_ble_eq_true rfl) hroom_m_in (fun r55 _s58 ok56 hq => ?_) (fun _ _ hx => hx.elim)
              obtain ⟨hs_, hk_⟩ := hq
              subst hs_
              have h := hk_
              refine z_if_ne C d_m_line_52 (okI_b ok56) (fun hb57 => ?_) (fun hb57 => ?_)
              · have h := h.1 hb57
                refine z_sub [(0, .ref (zA G 45)), (1, .long (lL p0)), (3, .int (iI v3_1)), (4, .int (iI v4_2)), (5, .int (iI v5_37))] [1, 2, 3, 4, 0] rfl ?_
                exact HJ53 h
              · have h := h.2 hb57
                refine z_iconst C d_m_line_55 ?_
                refine z_goto C d_m_line_56 ?_
                refine z_sub [(0, .ref (zA G 45)), (1, .long (lL p0)), (3, .int (iI v3_1)), (4, .int (iI v4_2)), (5, .int (iI v5_37))] [1, 2, 3, 4, 0] rfl ?_
                exact HJ42 _ h (okI_lit rfl)
theorem d_m_digit_0 : DD b_m_digit 0 (.iload_n 0) 1 1 := ⟨by decide +kernel, rfl⟩
theorem d_m_digit_1 : DD b_m_digit 1 (.bipush 48) 2 3 := ⟨by decide +kernel, rfl⟩
theorem d_m_digit_3 : DD b_m_digit 3 (.bipush 57) 2 5 := ⟨by decide +kernel, rfl⟩
theorem d_m_digit_5 : DD b_m_digit 5 (.invokestatic 68) 3 8 := ⟨by decide +kernel, rfl⟩
theorem d_m_digit_8 : DB b_m_digit 8 (.ifCond .eq 10) 10 11 18 := ⟨by decide +kernel, rfl, rfl⟩
theorem d_m_digit_11 : DD b_m_digit 11 (.iload_n 0) 1 12 := ⟨by decide +kernel, rfl⟩
theorem d_m_digit_12 : DD b_m_digit 12 (.bipush 48) 2 14 := ⟨by decide +kernel, rfl⟩
theorem d_m_digit_14 : DD b_m_digit 14 .isub 1 15 := ⟨by decide +kernel, rfl⟩
theorem d_m_digit_15 : DB b_m_digit 15 (.goto 47) 47 18 62 := ⟨by decide +kernel, rfl, rfl⟩
theorem d_m_digit_18 : DD b_m_digit 18 (.iload_n 0) 1 19 := ⟨by decide +kernel, rfl⟩
theorem d_m_digit_19 : DD b_m_digit 19 (.bipush 97) 2 21 := ⟨by decide +kernel, rfl⟩
theorem d_m_digit_21 : DD b_m_digit 21 (.bipush 122) 2 23 := ⟨by decide +kernel, rfl⟩
theorem d_m_digit_23 : DD b_m_digit 23 (.invokestatic 68) 3 26 := ⟨by decide +kernel, rfl⟩
theorem d_m_digit_26 : DB b_m_digit 26 (.ifCond .eq 13) 13 29 39 := ⟨by decide +kernel, rfl, rfl⟩
theorem d_m_digit_29 : DD b_m_digit 29 (.iload_n 0) 1 30 := ⟨by decide +kernel, rfl⟩
theorem d_m_digit_30 : DD b_m_digit 30 (.bipush 97) 2 32 := ⟨by decide +kernel, rfl⟩
theorem d_m_digit_32 : DD b_m_digit 32 .isub 1 33 := ⟨by decide +kernel, rfl⟩
theorem d_m_digit_33 : DD b_m_digit 33 (.bipush 10) 2 35 := ⟨by decide +kernel, rfl⟩
theorem d_m_digit_35 : DD b_m_digit 35 .iadd 1 36 := ⟨by decide +kernel, rfl⟩
theorem d_m_digit_36 : DB b_m_digit 36 (.goto 26) 26 39 62 := ⟨by decide +kernel, rfl, rfl⟩
theorem d_m_digit_39 : DD b_m_digit 39 (.iload_n 0) 1 40 := ⟨by decide +kernel, rfl⟩
theorem d_m_digit_40 : DD b_m_digit 40 (.bipush 65) 2 42 := ⟨by decide +kernel, rfl⟩
theorem d_m_digit_42 : DD b_m_digit 42 (.bipush 90) 2 44 := ⟨by decide +kernel, rfl⟩
theorem d_m_digit_44 : DD b_m_digit 44 (.invokestatic 68) 3 47 := ⟨by decide +kernel, rfl⟩
theorem d_m_digit_47 : DB b_m_digit 47 (.ifCond .eq 13) 13 50 60 := ⟨by decide +kernel, rfl, rfl⟩
theorem d_m_digit_50 : DD b_m_digit 50 (.iload_n 0) 1 51 := ⟨by decide +kernel, rfl⟩
theorem d_m_digit_51 : DD b_m_digit 51 (.bipush 65) 2 53 := ⟨by decide +kernel, rfl⟩
theorem d_m_digit_53 : DD b_m_digit 53 .isub 1 54 := ⟨by decide +kernel, rfl⟩
theorem d_m_digit_54 : DD b_m_digit 54 (.bipush 10) 2 56 := ⟨by decide +kernel, rfl⟩
theorem d_m_digit_56 : DD b_m_digit 56 .iadd 1 57 := ⟨by decide +kernel, rfl⟩
theorem d_m_digit_57 : DB b_m_digit 57 (.goto 5) 5 60 62 := ⟨by decide +kernel, rfl, rfl⟩
theorem d_m_digit_60 : DD b_m_digit 60 (.bipush 99) 2 62 := ⟨by decide +kernel, rfl⟩
theorem d_m_digit_62 : DD b_m_digit 62 .ireturn 1 63 := ⟨by decide +kernel, rfl⟩
set_option maxRecDepth 20000 in
set_option maxHeartbeats 4000000 in
theorem c_m_digit (l : Launch) (G : ZG) {p0 : Int} {σ : Mem} {K : Int → Prop} (h : wp_m_digit p0 σ K) (h_p0 : okI p0) : Ct l G y_m_digit (.code y_m_digit b_m_digit 1 (some .int)) { frames := 1, cells := 0, slots := 0, locals := 22 } 0 0 1 [.int (iI p0)] σ (fun r σ1 => σ = σ1 ∧ K r) (fun _ _ => False) := by
  unfold wp_m_digit at h
  refine Ct.ofZ [(0, .int (iI p0))] "LimbDeskModel" (by decide) rfl (Nat.le_of_ble_eq_true rfl) rfl ?_
  intro E hR hlE C hr hX
  subst hlE
  have hroom_m_in : 0 + 1 ≤ (zR E).frames ∧ 8 + (3 + 11) + 0 ≤ (zR E).locals ∧ 0 + 0 ≤ (zR E).cells ∧ 0 + 0 ≤ (zR E).slots := by rw [hR]; decide
  clear hR
  obtain ⟨Q, hQ⟩ : ∃ Q, Q = MQX G (zb E) 1 (fun r σ1 => σ = σ1 ∧ K r) (fun _ _ => False) (zs E) 0 0 0 0 := ⟨_, rfl⟩
  show Z E G 1 0 0 (MQX G (zb E) 1 (fun r σ1 => σ = σ1 ∧ K r) (fun _ _ => False) (zs E) 0 0 0 0) σ 0 [(0, .int (iI p0))] []
  rw [← hQ]
  refine z_iload_n C 0 d_m_digit_0 rfl ?_
  refine z_bipush C d_m_digit_1 (by decide) ?_
  refine z_bipush C d_m_digit_3 (by decide) ?_
  refine z_callS C [.int (iI p0), .int (iI 48), .int (iI 57)] [] 3 d_m_digit_5 (c_m_in (zl E) G h h_p0 (okI_lit rfl) (okI_lit rfl)) k_522 k_520 k_521 k_3 (by decide)  (by decide +kernel) rfl rfl (Nat.le_of_ble_eq_true rfl) hroom_m_in (fun r1 _s15 ok2 hq => ?_) (fun _ _ hx => hx.elim)
  obtain ⟨hs_, hk_⟩ := hq
  subst hs_
  have h := hk_
  refine z_if_eq C d_m_digit_8 (okI_b ok2) (fun hb3 => ?_) (fun hb3 => ?_)
  · have h := h.1 hb3
    refine z_iload_n C 0 d_m_digit_18 rfl ?_
    refine z_bipush C d_m_digit_19 (by decide) ?_
    refine z_bipush C d_m_digit_21 (by decide) ?_
    refine z_callS C [.int (iI p0), .int (iI 97), .int (iI 122)] [] 3 d_m_digit_23 (c_m_in (zl E) G h h_p0 (okI_lit rfl) (okI_lit rfl)) k_522 k_520 k_521 k_3 (by decide)  (by decide +kernel) rfl rfl (Nat.le_of_ble_eq_true rfl) hroom_m_in (fun r4 _s13 ok5 hq => ?_) (fun _ _ hx => hx.elim)
    obtain ⟨hs_, hk_⟩ := hq
    subst hs_
    have h := hk_
    refine z_if_eq C d_m_digit_26 (okI_b ok5) (fun hb6 => ?_) (fun hb6 => ?_)
    · have h := h.1 hb6
      refine z_iload_n C 0 d_m_digit_39 rfl ?_
      refine z_bipush C d_m_digit_40 (by decide) ?_
      refine z_bipush C d_m_digit_42 (by decide) ?_
      refine z_callS C [.int (iI p0), .int (iI 65), .int (iI 90)] [] 3 d_m_digit_44 (c_m_in (zl E) G h h_p0 (okI_lit rfl) (okI_lit rfl)) k_522 k_520 k_521 k_3 (by decide)  (by decide +kernel) rfl rfl (Nat.le_of_ble_eq_true rfl) hroom_m_in (fun r7 _s11 ok8 hq => ?_) (fun _ _ hx => hx.elim)
      obtain ⟨hs_, hk_⟩ := hq
      subst hs_
      have h := hk_
      refine z_if_eq C d_m_digit_47 (okI_b ok8) (fun hb9 => ?_) (fun hb9 => ?_)
      · have h := h.1 hb9
        refine z_bipush C d_m_digit_60 (by decide) ?_
        subst hQ
        exact z_ireturn C d_m_digit_62.1 hr ⟨Nat.zero_le _, Nat.zero_le _⟩ (okI_lit rfl) ⟨rfl, h⟩
      · have h := h.2 hb9
        refine z_iload_n C 0 d_m_digit_50 rfl ?_
        refine z_bipush C d_m_digit_51 (by decide) ?_
        refine z_isub C d_m_digit_53 ?_
        refine z_bipush C d_m_digit_54 (by decide) ?_
        refine z_iadd C d_m_digit_56 ?_
        refine z_goto C d_m_digit_57 ?_
        obtain ⟨ok10, h⟩ := h
        subst hQ
        exact z_ireturn C d_m_digit_62.1 hr ⟨Nat.zero_le _, Nat.zero_le _⟩ ok10 ⟨rfl, h⟩
    · have h := h.2 hb6
      refine z_iload_n C 0 d_m_digit_29 rfl ?_
      refine z_bipush C d_m_digit_30 (by decide) ?_
      refine z_isub C d_m_digit_32 ?_
      refine z_bipush C d_m_digit_33 (by decide) ?_
      refine z_iadd C d_m_digit_35 ?_
      refine z_goto C d_m_digit_36 ?_
      obtain ⟨ok12, h⟩ := h
      subst hQ
      exact z_ireturn C d_m_digit_62.1 hr ⟨Nat.zero_le _, Nat.zero_le _⟩ ok12 ⟨rfl, h⟩
  · have h := h.2 hb3
    refine z_iload_n C 0 d_m_digit_11 rfl ?_
    refine z_bipush C d_m_digit_12 (by decide) ?_
    refine z_isub C d_m_digit_14 ?_
    refine z_goto C d_m_digit_15 ?_
    obtain ⟨ok14, h⟩ := h
    subst hQ
    exact z_ireturn C d_m_digit_62.1 hr ⟨Nat.zero_le _, Nat.zero_le _⟩ ok14 ⟨rfl, h⟩
theorem d_m_timesSmall_0 : DD b_m_timesSmall 0 (.iload_n 3) 1 1 := ⟨by decide +kernel, rfl⟩
theorem d_m_timesSmall_1 : DD b_m_timesSmall 1 .i2l 1 2 := ⟨by decide +kernel, rfl⟩
theorem d_m_timesSmall_2 : DD b_m_timesSmall 2 (.lstore 4) 2 4 := ⟨by decide +kernel, rfl⟩
theorem d_m_timesSmall_4 : DD b_m_timesSmall 4 (.iconst 0) 1 5 := ⟨by decide +kernel, rfl⟩
theorem d_m_timesSmall_5 : DD b_m_timesSmall 5 (.istore 6) 2 7 := ⟨by decide +kernel, rfl⟩
theorem d_m_timesSmall_7 : DD b_m_timesSmall 7 (.iload 6) 2 9 := ⟨by decide +kernel, rfl⟩
theorem d_m_timesSmall_9 : DD b_m_timesSmall 9 (.iload_n 1) 1 10 := ⟨by decide +kernel, rfl⟩
theorem d_m_timesSmall_10 : DB b_m_timesSmall 10 (.if_icmp .ge 40) 40 13 50 := ⟨by decide +kernel, rfl, rfl⟩
theorem d_m_timesSmall_13 : DD b_m_timesSmall 13 (.lload 4) 2 15 := ⟨by decide +kernel, rfl⟩
theorem d_m_timesSmall_15 : DD b_m_timesSmall 15 (.aload_n 0) 1 16 := ⟨by decide +kernel, rfl⟩
theorem d_m_timesSmall_16 : DD b_m_timesSmall 16 (.iload 6) 2 18 := ⟨by decide +kernel, rfl⟩
theorem d_m_timesSmall_18 : DD b_m_timesSmall 18 .iaload 1 19 := ⟨by decide +kernel, rfl⟩
theorem d_m_timesSmall_19 : DD b_m_timesSmall 19 .i2l 1 20 := ⟨by decide +kernel, rfl⟩
theorem d_m_timesSmall_20 : DD b_m_timesSmall 20 (.iload_n 2) 1 21 := ⟨by decide +kernel, rfl⟩
theorem d_m_timesSmall_21 : DD b_m_timesSmall 21 .i2l 1 22 := ⟨by decide +kernel, rfl⟩
theorem d_m_timesSmall_22 : DD b_m_timesSmall 22 .lmul 1 23 := ⟨by decide +kernel, rfl⟩
theorem d_m_timesSmall_23 : DD b_m_timesSmall 23 .ladd 1 24 := ⟨by decide +kernel, rfl⟩
theorem d_m_timesSmall_24 : DD b_m_timesSmall 24 (.lstore 4) 2 26 := ⟨by decide +kernel, rfl⟩
theorem d_m_timesSmall_26 : DD b_m_timesSmall 26 (.aload_n 0) 1 27 := ⟨by decide +kernel, rfl⟩
theorem d_m_timesSmall_27 : DD b_m_timesSmall 27 (.iload 6) 2 29 := ⟨by decide +kernel, rfl⟩
theorem d_m_timesSmall_29 : DD b_m_timesSmall 29 (.lload 4) 2 31 := ⟨by decide +kernel, rfl⟩
theorem d_m_timesSmall_31 : DD b_m_timesSmall 31 (.ldc2_w 58) 3 34 := ⟨by decide +kernel, rfl⟩
theorem d_m_timesSmall_34 : DD b_m_timesSmall 34 .land 1 35 := ⟨by decide +kernel, rfl⟩
theorem d_m_timesSmall_35 : DD b_m_timesSmall 35 .l2i 1 36 := ⟨by decide +kernel, rfl⟩
theorem d_m_timesSmall_36 : DD b_m_timesSmall 36 .iastore 1 37 := ⟨by decide +kernel, rfl⟩
theorem d_m_timesSmall_37 : DD b_m_timesSmall 37 (.lload 4) 2 39 := ⟨by decide +kernel, rfl⟩
theorem d_m_timesSmall_39 : DD b_m_timesSmall 39 (.bipush 16) 2 41 := ⟨by decide +kernel, rfl⟩
theorem d_m_timesSmall_41 : DD b_m_timesSmall 41 .lshr 1 42 := ⟨by decide +kernel, rfl⟩
theorem d_m_timesSmall_42 : DD b_m_timesSmall 42 (.lstore 4) 2 44 := ⟨by decide +kernel, rfl⟩
theorem d_m_timesSmall_44 : DD b_m_timesSmall 44 (.iinc 6 1) 3 47 := ⟨by decide +kernel, rfl⟩
theorem d_m_timesSmall_47 : DB b_m_timesSmall 47 (.goto (-40)) (-40) 50 7 := ⟨by decide +kernel, rfl, rfl⟩
theorem d_m_timesSmall_50 : DD b_m_timesSmall 50 (.iload_n 1) 1 51 := ⟨by decide +kernel, rfl⟩
theorem d_m_timesSmall_51 : DD b_m_timesSmall 51 (.istore 6) 2 53 := ⟨by decide +kernel, rfl⟩
theorem d_m_timesSmall_53 : DD b_m_timesSmall 53 (.lload 4) 2 55 := ⟨by decide +kernel, rfl⟩
theorem d_m_timesSmall_55 : DD b_m_timesSmall 55 (.lconst 0) 1 56 := ⟨by decide +kernel, rfl⟩
theorem d_m_timesSmall_56 : DD b_m_timesSmall 56 .lcmp 1 57 := ⟨by decide +kernel, rfl⟩
theorem d_m_timesSmall_57 : DB b_m_timesSmall 57 (.ifCond .eq 27) 27 60 84 := ⟨by decide +kernel, rfl, rfl⟩
theorem d_m_timesSmall_60 : DD b_m_timesSmall 60 (.aload_n 0) 1 61 := ⟨by decide +kernel, rfl⟩
theorem d_m_timesSmall_61 : DD b_m_timesSmall 61 (.iload 6) 2 63 := ⟨by decide +kernel, rfl⟩
theorem d_m_timesSmall_63 : DD b_m_timesSmall 63 (.iinc 6 1) 3 66 := ⟨by decide +kernel, rfl⟩
theorem d_m_timesSmall_66 : DD b_m_timesSmall 66 (.lload 4) 2 68 := ⟨by decide +kernel, rfl⟩
theorem d_m_timesSmall_68 : DD b_m_timesSmall 68 (.ldc2_w 58) 3 71 := ⟨by decide +kernel, rfl⟩
theorem d_m_timesSmall_71 : DD b_m_timesSmall 71 .land 1 72 := ⟨by decide +kernel, rfl⟩
theorem d_m_timesSmall_72 : DD b_m_timesSmall 72 .l2i 1 73 := ⟨by decide +kernel, rfl⟩
theorem d_m_timesSmall_73 : DD b_m_timesSmall 73 .iastore 1 74 := ⟨by decide +kernel, rfl⟩
theorem d_m_timesSmall_74 : DD b_m_timesSmall 74 (.lload 4) 2 76 := ⟨by decide +kernel, rfl⟩
theorem d_m_timesSmall_76 : DD b_m_timesSmall 76 (.bipush 16) 2 78 := ⟨by decide +kernel, rfl⟩
theorem d_m_timesSmall_78 : DD b_m_timesSmall 78 .lshr 1 79 := ⟨by decide +kernel, rfl⟩
theorem d_m_timesSmall_79 : DD b_m_timesSmall 79 (.lstore 4) 2 81 := ⟨by decide +kernel, rfl⟩
theorem d_m_timesSmall_81 : DB b_m_timesSmall 81 (.goto (-28)) (-28) 84 53 := ⟨by decide +kernel, rfl, rfl⟩
theorem d_m_timesSmall_84 : DD b_m_timesSmall 84 (.iload 6) 2 86 := ⟨by decide +kernel, rfl⟩
theorem d_m_timesSmall_86 : DD b_m_timesSmall 86 .ireturn 1 87 := ⟨by decide +kernel, rfl⟩
set_option maxRecDepth 20000 in
set_option maxHeartbeats 4000000 in
theorem c_m_timesSmall (l : Launch) (G : ZG) {p0 p1 p2 p3 : Int} {σ : Mem} {K : Int → Mem → Prop} (h : wp_m_timesSmall p0 p1 p2 p3 σ K) (h_p0 : isA p0) (h_p1 : okI p1) (h_p2 : okI p2) (h_p3 : okI p3) : Ct l G y_m_timesSmall (.code y_m_timesSmall b_m_timesSmall 7 (some .int)) { frames := 0, cells := 0, slots := 0, locals := 0 } 0 0 1 [.ref (zA G p0), .int (iI p1), .int (iI p2), .int (iI p3)] σ K (fun _ _ => False) := by
  unfold wp_m_timesSmall at h
  refine Ct.ofZ [(0, .ref (zA G p0)), (1, .int (iI p1)), (2, .int (iI p2)), (3, .int (iI p3))] "LimbDeskModel" (by decide) rfl (Nat.le_of_ble_eq_true rfl) rfl ?_
  intro E hR hlE C hr hX
  subst hlE
  clear hR
  obtain ⟨Q, hQ⟩ : ∃ Q, Q = MQX G (zb E) 1 K (fun _ _ => False) (zs E) 0 0 0 0 := ⟨_, rfl⟩
  show Z E G 7 0 0 (MQX G (zb E) 1 K (fun _ _ => False) (zs E) 0 0 0 0) σ 0 [(0, .ref (zA G p0)), (1, .int (iI p1)), (2, .int (iI p2)), (3, .int (iI p3))] []
  rw [← hQ]
  refine z_iload_n C 3 d_m_timesSmall_0 rfl ?_
  refine z_i2l C d_m_timesSmall_1 h_p3 ?_
  refine z_lstore C [(4, .long (lL p3)), (0, .ref (zA G p0)), (1, .int (iI p1)), (2, .int (iI p2)), (3, .int (iI p3))] d_m_timesSmall_2 (by decide) rfl ?_
  refine z_iconst C d_m_timesSmall_4 ?_
  refine z_istore C [(6, .int (iI 0)), (4, .long (lL p3)), (0, .ref (zA G p0)), (1, .int (iI p1)), (2, .int (iI p2)), (3, .int (iI p3))] d_m_timesSmall_5 (by decide) rfl ?_
  refine z_sub [(0, .ref (zA G p0)), (1, .int (iI p1)), (2, .int (iI p2)), (4, .long (lL p3)), (6, .int (iI 0))] [2, 3, 4, 1, 0] rfl ?_
  refine (Lo2.walk (P := fun v4_1 v6_2 σ3 => okI v6_2 → Z E G 7 0 0 Q σ3 7 [(0, .ref (zA G p0)), (1, .int (iI p1)), (2, .int (iI p2)), (4, .long (lL v4_1)), (6, .int (iI v6_2))] []) ?_ h) (okI_lit rfl)
  intro v4_1 v6_2 σ3 again5 Hagain5 h ok4
  refine z_iload C 4 d_m_timesSmall_7 rfl ?_
  refine z_iload_n C 1 d_m_timesSmall_9 rfl ?_
  refine z_icmp_ge C d_m_timesSmall_10 ok4 h_p1 (fun hb6 => ?_) (fun hb6 => ?_)
  · have h := h.1 hb6
    refine z_iload_n C 1 d_m_timesSmall_50 rfl ?_
    refine z_istore C [(6, .int (iI p1)), (0, .ref (zA G p0)), (1, .int (iI p1)), (2, .int (iI p2)), (4, .long (lL v4_1))] d_m_timesSmall_51 (by decide) rfl ?_
    refine z_sub [(0, .ref (zA G p0)), (4, .long (lL v4_1)), (6, .int (iI p1))] [1, 4, 0] rfl ?_
    refine (Lo2.walk (P := fun v4_7 v6_8 σ9 => okI v6_8 → Z E G 7 0 0 Q σ9 53 [(0, .ref (zA G p0)), (4, .long (lL v4_7)), (6, .int (iI v6_8))] []) ?_ h) h_p1
    intro v4_7 v6_8 σ9 again11 Hagain11 h ok10
    refine z_lload C 1 d_m_timesSmall_53 rfl ?_
    refine z_lconst C d_m_timesSmall_55 ?_
    obtain ⟨ok12, h⟩ := h
    refine z_lcmp_eq0 C d_m_timesSmall_56 d_m_timesSmall_57 ok12 (fun hb13 => ?_) (fun hb13 => ?_)
    · have h := h.1 hb13
      refine z_iload C 2 d_m_timesSmall_84 rfl ?_
      subst hQ
      exact z_ireturn C d_m_timesSmall_86.1 hr ⟨Nat.zero_le _, Nat.zero_le _⟩ ok10 h
    · have h := h.2 hb13
      refine z_aload_n C 0 d_m_timesSmall_60 rfl ?_
      refine z_iload C 2 d_m_timesSmall_61 rfl ?_
      refine z_iinc C 2 [(6, .int (iI (v6_8 + 1))), (0, .ref (zA G p0)), (4, .long (lL v4_7))] d_m_timesSmall_63 rfl (by decide) rfl ?_
      refine z_lload C 2 d_m_timesSmall_66 rfl ?_
      refine z_ldc2 C d_m_timesSmall_68 k_538 (n := 65535) (by decide) ?_
      refine z_lmask C 16 65536 d_m_timesSmall_71 (by decide) (by decide) (by decide) ?_
      refine z_l2i C d_m_timesSmall_72 ?_
      obtain ⟨hc14, h⟩ := h
      refine z_iastN C (ln p0) d_m_timesSmall_73 h_p0 rfl hc14 ?_
      refine z_lload C 2 d_m_timesSmall_74 rfl ?_
      refine z_bipush C d_m_timesSmall_76 (by decide) ?_
      obtain ⟨ok15, h⟩ := h
      refine z_lshrK C 65536 d_m_timesSmall_78 (by decide) ok15 ⟨by decide, by decide⟩ ?_
      refine z_namel (fun v4_16 e17 => ?_)
      have h := h v4_16 e17
      refine z_lstore C [(4, .long (lL v4_16)), (6, .int (iI (v6_8 + 1))), (0, .ref (zA G p0))] d_m_timesSmall_79 (by decide) rfl ?_
      refine z_goto C d_m_timesSmall_81 ?_
      obtain ⟨ok18, h⟩ := h
      refine z_sub [(0, .ref (zA G p0)), (4, .long (lL v4_16)), (6, .int (iI (v6_8 + 1)))] [2, 0, 1] rfl ?_
      exact Hagain11 _ _ _ h ok18
  · have h := h.2 hb6
    refine z_lload C 3 d_m_timesSmall_13 rfl ?_
    refine z_aload_n C 0 d_m_timesSmall_15 rfl ?_
    refine z_iload C 4 d_m_timesSmall_16 rfl ?_
    obtain ⟨hc19, h⟩ := h
    refine z_ialdN C (ln p0) d_m_timesSmall_18 h_p0 rfl hc19 ?_
    obtain ⟨ok20, h⟩ := h
    refine z_i2l C d_m_timesSmall_19 ok20 ?_
    refine z_iload_n C 2 d_m_timesSmall_20 rfl ?_
    refine z_i2l C d_m_timesSmall_21 h_p2 ?_
    refine z_lmul C d_m_timesSmall_22 ?_
    refine z_ladd C d_m_timesSmall_23 ?_
    refine z_namel (fun v4_21 e22 => ?_)
    have h := h v4_21 e22
    refine z_lstore C [(4, .long (lL v4_21)), (0, .ref (zA G p0)), (1, .int (iI p1)), (2, .int (iI p2)), (6, .int (iI v6_2))] d_m_timesSmall_24 (by decide) rfl ?_
    refine z_aload_n C 1 d_m_timesSmall_26 rfl ?_
    refine z_iload C 4 d_m_timesSmall_27 rfl ?_
    refine z_lload C 0 d_m_timesSmall_29 rfl ?_
    refine z_ldc2 C d_m_timesSmall_31 k_538 (n := 65535) (by decide) ?_
    refine z_lmask C 16 65536 d_m_timesSmall_34 (by decide) (by decide) (by decide) ?_
    refine z_l2i C d_m_timesSmall_35 ?_
    refine z_iastN C (ln p0) d_m_timesSmall_36 h_p0 rfl hc19 ?_
    refine z_lload C 0 d_m_timesSmall_37 rfl ?_
    refine z_bipush C d_m_timesSmall_39 (by decide) ?_
    obtain ⟨ok23, h⟩ := h
    refine z_lshrK C 65536 d_m_timesSmall_41 (by decide) ok23 ⟨by decide, by decide⟩ ?_
    refine z_namel (fun v4_24 e25 => ?_)
    have h := h v4_24 e25
    refine z_lstore C [(4, .long (lL v4_24)), (0, .ref (zA G p0)), (1, .int (iI p1)), (2, .int (iI p2)), (6, .int (iI v6_2))] d_m_timesSmall_42 (by decide) rfl ?_
    refine z_iinc C 4 [(6, .int (iI (v6_2 + 1))), (4, .long (lL v4_24)), (0, .ref (zA G p0)), (1, .int (iI p1)), (2, .int (iI p2))] d_m_timesSmall_44 rfl (by decide) rfl ?_
    refine z_goto C d_m_timesSmall_47 ?_
    obtain ⟨ok26, h⟩ := h
    refine z_sub [(0, .ref (zA G p0)), (1, .int (iI p1)), (2, .int (iI p2)), (4, .long (lL v4_24)), (6, .int (iI (v6_2 + 1)))] [2, 3, 4, 1, 0] rfl ?_
    exact Hagain5 _ _ _ h ok26
