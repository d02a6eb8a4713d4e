/-! Walks, printed by gen/gen.py. -/
theorem d_d_in_0 : DD b_d_in 0 (.iload_n 0) 1 1 := ⟨by decide +kernel, rfl⟩
theorem d_d_in_1 : DD b_d_in 1 (.iload_n 1) 1 2 := ⟨by decide +kernel, rfl⟩
theorem d_d_in_2 : DB b_d_in 2 (.if_icmp .lt 12) 12 5 14 := ⟨by decide +kernel, rfl, rfl⟩
theorem d_d_in_5 : DD b_d_in 5 (.iload_n 0) 1 6 := ⟨by decide +kernel, rfl⟩
theorem d_d_in_6 : DD b_d_in 6 (.iload_n 2) 1 7 := ⟨by decide +kernel, rfl⟩
theorem d_d_in_7 : DB b_d_in 7 (.if_icmp .gt 7) 7 10 14 := ⟨by decide +kernel, rfl, rfl⟩
theorem d_d_in_10 : DD b_d_in 10 (.iconst 1) 1 11 := ⟨by decide +kernel, rfl⟩
theorem d_d_in_11 : DB b_d_in 11 (.goto 4) 4 14 15 := ⟨by decide +kernel, rfl, rfl⟩
theorem d_d_in_14 : DD b_d_in 14 (.iconst 0) 1 15 := ⟨by decide +kernel, rfl⟩
theorem d_d_in_15 : DD b_d_in 15 .ireturn 1 16 := ⟨by decide +kernel, rfl⟩
set_option maxRecDepth 20000 in
set_option maxHeartbeats 4000000 in
theorem c_d_in (l : Launch) (G : ZG) {p0 p1 p2 : Int} {σ : Mem} {K : Int → Prop} (h : wp_d_in p0 p1 p2 σ K) (h_p0 : okI p0) (h_p1 : okI p1) (h_p2 : okI p2) : Ct l G y_d_in (.code y_d_in b_d_in 3 (some .boolean)) { frames := 0, cells := 0, slots := 0, locals := 0 } 0 0 4 [.int (iI p0), .int (iI p1), .int (iI p2)] σ (fun r σ1 => σ = σ1 ∧ K r) (fun _ _ => False) := by
  unfold wp_d_in at h
  refine Ct.ofZ [(0, .int (iI p0)), (1, .int (iI p1)), (2, .int (iI p2))] "LimbDesk" (by decide) rfl (Nat.le_of_ble_eq_true rfl) rfl ?_
  intro E hR hlE C hr hX
  subst hlE
  clear hR
  obtain ⟨Q, hQ⟩ : ∃ Q, Q = MQX G (zb E) 4 (fun r σ1 => σ = σ1 ∧ K r) (fun _ _ => False) (zs E) 0 0 0 0 := ⟨_, rfl⟩
  show Z E G 3 0 0 (MQX G (zb E) 4 (fun r σ1 => σ = σ1 ∧ K r) (fun _ _ => False) (zs E) 0 0 0 0) σ 0 [(0, .int (iI p0)), (1, .int (iI p1)), (2, .int (iI p2))] []
  rw [← hQ]
  refine z_iload_n C 0 d_d_in_0 rfl ?_
  refine z_iload_n C 1 d_d_in_1 rfl ?_
  refine Jq0.walk (Z E G 3 0 0 Q σ 14 [] []) h ?_ ?_
  · intro h
    refine z_iconst C d_d_in_14 ?_
    subst hQ
    exact z_zreturn C d_d_in_15.1 hr ⟨Nat.zero_le _, Nat.zero_le _⟩ (Or.inl rfl) ⟨rfl, h⟩
  · intro J1 HJ1 h
    refine z_icmp_lt C d_d_in_2 h_p0 h_p1 (fun hb2 => ?_) (fun hb2 => ?_)
    · have h := h.1 hb2
      refine z_sub [] [] rfl ?_
      exact HJ1 h
    · have h := h.2 hb2
      refine z_iload_n C 0 d_d_in_5 rfl ?_
      refine z_iload_n C 2 d_d_in_6 rfl ?_
      refine z_icmp_gt C d_d_in_7 h_p0 h_p2 (fun hb3 => ?_) (fun hb3 => ?_)
      · have h := h.1 hb3
        refine z_sub [] [] rfl ?_
        exact HJ1 h
      · have h := h.2 hb3
        refine z_iconst C d_d_in_10 ?_
        refine z_goto C d_d_in_11 ?_
        subst hQ
        exact z_zreturn C d_d_in_15.1 hr ⟨Nat.zero_le _, Nat.zero_le _⟩ (Or.inr rfl) ⟨rfl, h⟩
theorem d_d_good_0 : DD b_d_good 0 (.iload_n 0) 1 1 := ⟨by decide +kernel, rfl⟩
theorem d_d_good_1 : DB b_d_good 1 (.ifCond .ne 11) 11 4 12 := ⟨by decide +kernel, rfl, rfl⟩
theorem d_d_good_4 : DD b_d_good 4 (.new 38) 3 7 := ⟨by decide +kernel, rfl⟩
theorem d_d_good_7 : DD b_d_good 7 .dup 1 8 := ⟨by decide +kernel, rfl⟩
theorem d_d_good_8 : DD b_d_good 8 (.invokespecial 40) 3 11 := ⟨by decide +kernel, rfl⟩
theorem d_d_good_11 : DD b_d_good 11 .athrow 1 12 := ⟨by decide +kernel, rfl⟩
theorem d_d_good_12 : DD b_d_good 12 .return_ 1 13 := ⟨by decide +kernel, rfl⟩
set_option maxRecDepth 20000 in
set_option maxHeartbeats 4000000 in
theorem c_d_good (l : Launch) (G : ZG) (htl : l.stackTraces = false) {p0 : Int} {σ : Mem} {K : Prop} {X : Int → Mem → Prop} (h : wp_d_good p0 σ K X) (h_p0 : okI p0) : Ct l G y_d_good (.code y_d_good b_d_good 1 none) { frames := 6, cells := 1, slots := 6, locals := 100 } 0 0 0 [.int (iI p0)] σ (fun _ σ1 => σ = σ1 ∧ K) X := by
  unfold wp_d_good at h
  refine Ct.ofZ [(0, .int (iI p0))] "LimbDesk" (by decide) rfl (Nat.le_of_ble_eq_true rfl) rfl ?_
  intro E hR hlE C hr hX
  subst hlE
  have hroomT : 6 ≤ (zR E).frames ∧ 100 ≤ (zR E).locals ∧ 0 + 1 ≤ (zR E).cells ∧ 0 + 6 ≤ (zR E).slots := by rw [hR]; decide
  clear hR
  obtain ⟨Q, hQ⟩ : ∃ Q, Q = MQX G (zb E) 0 (fun _ σ1 => σ = σ1 ∧ K) X (zs E) 0 0 1 6 := ⟨_, rfl⟩
  show Z E G 1 0 0 (MQX G (zb E) 0 (fun _ σ1 => σ = σ1 ∧ K) X (zs E) 0 0 1 6) σ 0 [(0, .int (iI p0))] []
  rw [← hQ]
  refine z_iload_n C 0 d_d_good_0 rfl ?_
  refine z_if_ne C d_d_good_1 h_p0 (fun hb1 => ?_) (fun hb1 => ?_)
  · have h := h.1 hb1
    subst hQ
    exact z_return C d_d_good_12.1 hr ⟨Nat.zero_le _, Nat.zero_le _⟩ ⟨rfl, h⟩
  · have h := h.2 hb1
    subst hQ
    exact z_throw C hX htl 1 (by decide) (by decide +kernel) d_d_good_4 d_d_good_7 d_d_good_8.1 d_d_good_11.1 k_87 k_88 k_7 zown_1 hroomT (Nat.le_of_ble_eq_true rfl) ⟨by decide, by decide⟩ h
theorem d_d_fits_0 : DD b_d_fits 0 (.iload_n 0) 1 1 := ⟨by decide +kernel, rfl⟩
theorem d_d_fits_1 : DB b_d_fits 1 (.ifCond .ne 11) 11 4 12 := ⟨by decide +kernel, rfl, rfl⟩
theorem d_d_fits_4 : DD b_d_fits 4 (.new 41) 3 7 := ⟨by decide +kernel, rfl⟩
theorem d_d_fits_7 : DD b_d_fits 7 .dup 1 8 := ⟨by decide +kernel, rfl⟩
theorem d_d_fits_8 : DD b_d_fits 8 (.invokespecial 43) 3 11 := ⟨by decide +kernel, rfl⟩
theorem d_d_fits_11 : DD b_d_fits 11 .athrow 1 12 := ⟨by decide +kernel, rfl⟩
theorem d_d_fits_12 : DD b_d_fits 12 .return_ 1 13 := ⟨by decide +kernel, rfl⟩
set_option maxRecDepth 20000 in
set_option maxHeartbeats 4000000 in
theorem c_d_fits (l : Launch) (G : ZG) (htl : l.stackTraces = false) {p0 : Int} {σ : Mem} {K : Prop} {X : Int → Mem → Prop} (h : wp_d_fits p0 σ K X) (h_p0 : okI p0) : Ct l G y_d_fits (.code y_d_fits b_d_fits 1 none) { frames := 6, cells := 1, slots := 6, locals := 100 } 0 0 0 [.int (iI p0)] σ (fun _ σ1 => σ = σ1 ∧ K) X := by
  unfold wp_d_fits at h
  refine Ct.ofZ [(0, .int (iI p0))] "LimbDesk" (by decide) rfl (Nat.le_of_ble_eq_true rfl) rfl ?_
  intro E hR hlE C hr hX
  subst hlE
  have hroomT : 6 ≤ (zR E).frames ∧ 100 ≤ (zR E).locals ∧ 0 + 1 ≤ (zR E).cells ∧ 0 + 6 ≤ (zR E).slots := by rw [hR]; decide
  clear hR
  obtain ⟨Q, hQ⟩ : ∃ Q, Q = MQX G (zb E) 0 (fun _ σ1 => σ = σ1 ∧ K) X (zs E) 0 0 1 6 := ⟨_, rfl⟩
  show Z E G 1 0 0 (MQX G (zb E) 0 (fun _ σ1 => σ = σ1 ∧ K) X (zs E) 0 0 1 6) σ 0 [(0, .int (iI p0))] []
  rw [← hQ]
  refine z_iload_n C 0 d_d_fits_0 rfl ?_
  refine z_if_ne C d_d_fits_1 h_p0 (fun hb1 => ?_) (fun hb1 => ?_)
  · have h := h.1 hb1
    subst hQ
    exact z_return C d_d_fits_12.1 hr ⟨Nat.zero_le _, Nat.zero_le _⟩ ⟨rfl, h⟩
  · have h := h.2 hb1
    subst hQ
    exact z_throw C hX htl 2 (by decide) (by decide +kernel) d_d_fits_4 d_d_fits_7 d_d_fits_8.1 d_d_fits_11.1 k_251 k_228 k_12 zown_2 hroomT (Nat.le_of_ble_eq_true rfl) ⟨by decide, by decide⟩ h
theorem d_d_at_0 : DD b_d_at 0 (.iload_n 1) 1 1 := ⟨by decide +kernel, rfl⟩
theorem d_d_at_1 : DD b_d_at 1 (.iconst 0) 1 2 := ⟨by decide +kernel, rfl⟩
theorem d_d_at_2 : DD b_d_at 2 (.bipush 15) 2 4 := ⟨by decide +kernel, rfl⟩
theorem d_d_at_4 : DD b_d_at 4 (.invokestatic 44) 3 7 := ⟨by decide +kernel, rfl⟩
theorem d_d_at_7 : DD b_d_at 7 (.invokestatic 48) 3 10 := ⟨by decide +kernel, rfl⟩
theorem d_d_at_10 : DD b_d_at 10 (.aload_n 0) 1 11 := ⟨by decide +kernel, rfl⟩
theorem d_d_at_11 : DD b_d_at 11 (.getfield 11) 3 14 := ⟨by decide +kernel, rfl⟩
theorem d_d_at_14 : DD b_d_at 14 (.iload_n 1) 1 15 := ⟨by decide +kernel, rfl⟩
theorem d_d_at_15 : DD b_d_at 15 .aaload 1 16 := ⟨by decide +kernel, rfl⟩
theorem d_d_at_16 : DD b_d_at 16 .areturn 1 17 := ⟨by decide +kernel, rfl⟩
set_option maxRecDepth 20000 in
set_option maxHeartbeats 4000000 in
theorem c_d_at (l : Launch) (G : ZG) (htl : l.stackTraces = false) {p0 : Int} {σ : Mem} {K : Int → Prop} {X : Int → Mem → Prop} (h : wp_d_at p0 σ K X) (h_p0 : okI p0) : Ct l G y_d_at (.code y_d_at b_d_at 2 (some (.object "LimbDesk$Num"))) { frames := 7, cells := 1, slots := 6, locals := 120 } 0 0 3 [.ref (zA G 42), .int (iI p0)] σ (fun r σ1 => σ = σ1 ∧ K r) X := by
  unfold wp_d_at at h
  refine Ct.ofZ [(0, .ref (zA G 42)), (1, .int (iI p0))] "LimbDesk" (by decide) rfl (Nat.le_of_ble_eq_true rfl) rfl ?_
  intro E hR hlE C hr hX
  subst hlE
  have hroom_d_good : 6 + 1 ≤ (zR E).frames ∧ 8 + (1 + 11) + 100 ≤ (zR E).locals ∧ 0 + 1 ≤ (zR E).cells ∧ 0 + 6 ≤ (zR E).slots := by rw [hR]; decide
  have hroom_d_in : 0 + 1 ≤ (zR E).frames ∧ 8 + (3 + 11) + 0 ≤ (zR E).locals ∧ 0 + 0 ≤ (zR E).cells ∧ 0 + 0 ≤ (zR E).slots := by rw [hR]; decide
  clear hR
  obtain ⟨Q, hQ⟩ : ∃ Q, Q = MQX G (zb E) 3 (fun r σ1 => σ = σ1 ∧ K r) X (zs E) 0 0 1 6 := ⟨_, rfl⟩
  show Z E G 2 0 0 (MQX G (zb E) 3 (fun r σ1 => σ = σ1 ∧ K r) X (zs E) 0 0 1 6) σ 0 [(0, .ref (zA G 42)), (1, .int (iI p0))] []
  rw [← hQ]
  refine z_iload_n C 1 d_d_at_0 rfl ?_
  refine z_iconst C d_d_at_1 ?_
  refine z_bipush C d_d_at_2 (by decide) ?_
  refine z_callS C [.int (iI p0), .int (iI 0), .int (iI 15)] [] 3 d_d_at_4 (c_d_in (zl E) G h h_p0 (okI_lit rfl) (okI_lit rfl)) k_83 k_81 k_82 k_1 (by decide)  (by decide +kernel) rfl rfl (Nat.le_of_ble_eq_true rfl) hroom_d_in (fun r1 _s6 ok2 hq => ?_) (fun _ _ hx => hx.elim)
  obtain ⟨hs_, hk_⟩ := hq
  subst hs_
  have h := hk_
  refine z_callS C [.int (iI r1)] [] 1 d_d_at_7 (c_d_good (zl E) G htl h (okI_b ok2)) k_86 k_84 k_85 k_1 (by decide)  (by decide +kernel) rfl rfl (Nat.le_of_ble_eq_true rfl) hroom_d_good (fun _r _s5 ok3 hq => ?_) (fun kx σx hx => by subst hQ; exact zt_leave C hX ⟨by decide, by decide⟩ hx)
  obtain ⟨hs_, hk_⟩ := hq
  subst hs_
  have h := hk_
  refine z_aload_n C 0 d_d_at_10 rfl ?_
  refine z_dget C 0 d_d_at_11 (by decide) k_43 rfl rfl ?_
  refine z_iload_n C 1 d_d_at_14 rfl ?_
  obtain ⟨hc4, h⟩ := h
  refine z_aald C d_d_at_15 hc4 ?_
  subst hQ
  exact z_areturn C d_d_at_16.1 hr ⟨Nat.zero_le _, Nat.zero_le _⟩ (isN16 hc4) ⟨rfl, h⟩
theorem d_d_into_0 : DD b_d_into 0 (.aload_n 0) 1 1 := ⟨by decide +kernel, rfl⟩
theorem d_d_into_1 : DD b_d_into 1 (.getfield 18) 3 4 := ⟨by decide +kernel, rfl⟩
theorem d_d_into_4 : DD b_d_into 4 (.invokevirtual 52) 3 7 := ⟨by decide +kernel, rfl⟩
theorem d_d_into_7 : DD b_d_into 7 (.sipush 2048) 3 10 := ⟨by decide +kernel, rfl⟩
theorem d_d_into_10 : DB b_d_into 10 (.if_icmp .gt 7) 7 13 17 := ⟨by decide +kernel, rfl, rfl⟩
theorem d_d_into_13 : DD b_d_into 13 (.iconst 1) 1 14 := ⟨by decide +kernel, rfl⟩
theorem d_d_into_14 : DB b_d_into 14 (.goto 4) 4 17 18 := ⟨by decide +kernel, rfl, rfl⟩
theorem d_d_into_17 : DD b_d_into 17 (.iconst 0) 1 18 := ⟨by decide +kernel, rfl⟩
theorem d_d_into_18 : DD b_d_into 18 (.invokestatic 56) 3 21 := ⟨by decide +kernel, rfl⟩
theorem d_d_into_21 : DD b_d_into 21 (.aload_n 1) 1 22 := ⟨by decide +kernel, rfl⟩
theorem d_d_into_22 : DD b_d_into 22 (.aload_n 0) 1 23 := ⟨by decide +kernel, rfl⟩
theorem d_d_into_23 : DD b_d_into 23 (.getfield 18) 3 26 := ⟨by decide +kernel, rfl⟩
theorem d_d_into_26 : DD b_d_into 26 (.invokevirtual 59) 3 29 := ⟨by decide +kernel, rfl⟩
theorem d_d_into_29 : DD b_d_into 29 (.aload_n 1) 1 30 := ⟨by decide +kernel, rfl⟩
theorem d_d_into_30 : DD b_d_into 30 .areturn 1 31 := ⟨by decide +kernel, rfl⟩
set_option maxRecDepth 20000 in
set_option maxHeartbeats 4000000 in
theorem c_d_into (l : Launch) (G : ZG) (htl : l.stackTraces = false) {p0 : Int} {σ : Mem} {K : Int → Mem → Prop} {X : Int → Mem → Prop} (h : wp_d_into p0 σ K X) (h_p0 : isN p0) : Ct l G y_d_into (.code y_d_into b_d_into 2 (some (.object "LimbDesk$Num"))) { frames := 7, cells := 1, slots := 6, locals := 120 } 0 0 3 [.ref (zA G 42), .ref (zA G p0)] σ K X := by
  unfold wp_d_into at h
  refine Ct.ofZ [(0, .ref (zA G 42)), (1, .ref (zA G p0))] "LimbDesk" (by decide) rfl (Nat.le_of_ble_eq_true rfl) rfl ?_
  intro E hR hlE C hr hX
  subst hlE
  have hroom_d_fits : 6 + 1 ≤ (zR E).frames ∧ 8 + (1 + 11) + 100 ≤ (zR E).locals ∧ 0 + 1 ≤ (zR E).cells ∧ 0 + 6 ≤ (zR E).slots := by rw [hR]; decide
  have hroom_n_bits : 1 + 1 ≤ (zR E).frames ∧ 8 + (1 + 11) + 21 ≤ (zR E).locals ∧ 0 + 0 ≤ (zR E).cells ∧ 0 + 0 ≤ (zR E).slots := by rw [hR]; decide
  have hroom_n_take : 0 + 1 ≤ (zR E).frames ∧ 8 + (3 + 11) + 0 ≤ (zR E).locals ∧ 0 + 0 ≤ (zR E).cells ∧ 0 + 0 ≤ (zR E).slots := by rw [hR]; decide
  clear hR
  obtain ⟨Q, hQ⟩ : ∃ Q, Q = MQX G (zb E) 3 K X (zs E) 0 0 1 6 := ⟨_, rfl⟩
  show Z E G 2 0 0 (MQX G (zb E) 3 K X (zs E) 0 0 1 6) σ 0 [(0, .ref (zA G 42)), (1, .ref (zA G p0))] []
  rw [← hQ]
  refine z_aload_n C 0 d_d_into_0 rfl ?_
  refine z_dget C 1 d_d_into_1 (by decide) k_44 rfl rfl ?_
  refine z_callV C "LimbDesk$Num" [] [] 0 d_d_into_4 (c_n_bits (zl E) G h ⟨by decide, by decide⟩) k_155 k_152 k_153 k_154 k_2 (by decide) (recv_N C ⟨by decide, by decide⟩) (by decide +kernel) rfl rfl (Nat.le_of_ble_eq_true rfl) hroom_n_bits (fun r1 _s11 ok2 hq => ?_) (fun _ _ hx => hx.elim)
  obtain ⟨hs_, hk_⟩ := hq
  subst hs_
  have h := hk_
  refine z_sipush C d_d_into_7 (by decide) ?_
  have hj : ∀ s4 : Int, s4 = (if 2048 < r1 then 0 else 1) → Z E G 2 0 0 Q σ 18 [(0, .ref (zA G 42)), (1, .ref (zA G p0))] [.int (iI s4)] := by
    intro s4 e5
    have h := h s4 e5
    have ok6 : okI s4 := by rw [e5]; split; exact (okI_lit rfl); exact (okI_lit rfl)
    refine z_callS C [.int (iI s4)] [] 1 d_d_into_18 (c_d_fits (zl E) G htl h ok6) k_250 k_248 k_249 k_1 (by decide)  (by decide +kernel) rfl rfl (Nat.le_of_ble_eq_true rfl) hroom_d_fits (fun _r _s10 ok7 hq => ?_) (fun kx σx hx => by subst hQ; exact zt_leave C hX ⟨by decide, by decide⟩ hx)
    obtain ⟨hs_, hk_⟩ := hq
    subst hs_
    have h := hk_
    refine z_aload_n C 1 d_d_into_21 rfl ?_
    refine z_aload_n C 0 d_d_into_22 rfl ?_
    refine z_dget C 1 d_d_into_23 (by decide) k_44 rfl rfl ?_
    refine z_callV C "LimbDesk$Num" [.ref (zA G 16)] [] 1 d_d_into_26 (c_n_take (zl E) G h h_p0 ⟨by decide, by decide⟩) k_269 k_266 k_267 k_268 k_2 (by decide) (recv_N C h_p0) (by decide +kernel) rfl rfl (Nat.le_of_ble_eq_true rfl) hroom_n_take (fun _r σ8 ok9 hq => ?_) (fun _ _ hx => hx.elim)
    have h := hq
    refine z_aload_n C 1 d_d_into_29 rfl ?_
    subst hQ
    exact z_areturn C d_d_into_30.1 hr ⟨Nat.zero_le _, Nat.zero_le _⟩ h_p0 h
  clear h
  refine z_icmp_gt C d_d_into_10 ok2 (okI_lit rfl) (fun hb3 => ?_) (fun hb3 => ?_)
  · refine z_iconst C d_d_into_17 ?_
    exact hj _ (if_pos hb3).symm
  · refine z_iconst C d_d_into_13 ?_
    refine z_goto C d_d_into_14 ?_
    exact hj _ (if_neg (Int.not_lt.mpr hb3)).symm
theorem d_d_set_0 : DD b_d_set 0 (.aload_n 0) 1 1 := ⟨by decide +kernel, rfl⟩
theorem d_d_set_1 : DD b_d_set 1 (.iload_n 1) 1 2 := ⟨by decide +kernel, rfl⟩
theorem d_d_set_2 : DD b_d_set 2 (.invokevirtual 63) 3 5 := ⟨by decide +kernel, rfl⟩
theorem d_d_set_5 : DD b_d_set 5 (.invokevirtual 52) 3 8 := ⟨by decide +kernel, rfl⟩
theorem d_d_set_8 : DD b_d_set 8 (.istore 4) 2 10 := ⟨by decide +kernel, rfl⟩
theorem d_d_set_10 : DD b_d_set 10 (.aload_n 0) 1 11 := ⟨by decide +kernel, rfl⟩
theorem d_d_set_11 : DD b_d_set 11 (.iload_n 1) 1 12 := ⟨by decide +kernel, rfl⟩
theorem d_d_set_12 : DD b_d_set 12 (.invokevirtual 63) 3 15 := ⟨by decide +kernel, rfl⟩
theorem d_d_set_15 : DD b_d_set 15 (.lload_n 2) 1 16 := ⟨by decide +kernel, rfl⟩
theorem d_d_set_16 : DD b_d_set 16 (.invokevirtual 67) 3 19 := ⟨by decide +kernel, rfl⟩
theorem d_d_set_19 : DD b_d_set 19 (.iload 4) 2 21 := ⟨by decide +kernel, rfl⟩
theorem d_d_set_21 : DD b_d_set 21 .ireturn 1 22 := ⟨by decide +kernel, rfl⟩
set_option maxRecDepth 20000 in
set_option maxHeartbeats 4000000 in
theorem c_d_set (l : Launch) (G : ZG) (htl : l.stackTraces = false) {p0 p1 : Int} {σ : Mem} {K : Int → Mem → Prop} {X : Int → Mem → Prop} (h : wp_d_set p0 p1 σ K X) (h_p0 : okI p0) (h_p1 : okL p1) : Ct l G y_d_set (.code y_d_set b_d_set 5 (some .int)) { frames := 8, cells := 1, slots := 6, locals := 141 } 0 0 1 [.ref (zA G 42), .int (iI p0), .long (lL p1)] σ K X := by
  unfold wp_d_set at h
  refine Ct.ofZ [(0, .ref (zA G 42)), (1, .int (iI p0)), (2, .long (lL p1))] "LimbDesk" (by decide) rfl (Nat.le_of_ble_eq_true rfl) rfl ?_
  intro E hR hlE C hr hX
  subst hlE
  have hroom_d_at : 7 + 1 ≤ (zR E).frames ∧ 8 + (2 + 11) + 120 ≤ (zR E).locals ∧ 0 + 1 ≤ (zR E).cells ∧ 0 + 6 ≤ (zR E).slots := by rw [hR]; decide
  have hroom_n_bits : 1 + 1 ≤ (zR E).frames ∧ 8 + (1 + 11) + 21 ≤ (zR E).locals ∧ 0 + 0 ≤ (zR E).cells ∧ 0 + 0 ≤ (zR E).slots := by rw [hR]; decide
  have hroom_n_set : 1 + 1 ≤ (zR E).frames ∧ 8 + (6 + 11) + 22 ≤ (zR E).locals ∧ 0 + 0 ≤ (zR E).cells ∧ 0 + 0 ≤ (zR E).slots := by rw [hR]; decide
  clear hR
  obtain ⟨Q, hQ⟩ : ∃ Q, Q = MQX G (zb E) 1 K X (zs E) 0 0 1 6 := ⟨_, rfl⟩
  show Z E G 5 0 0 (MQX G (zb E) 1 K X (zs E) 0 0 1 6) σ 0 [(0, .ref (zA G 42)), (1, .int (iI p0)), (2, .long (lL p1))] []
  rw [← hQ]
  refine z_aload_n C 0 d_d_set_0 rfl ?_
  refine z_iload_n C 1 d_d_set_1 rfl ?_
  refine z_callV C "LimbDesk" [.int (iI p0)] [] 1 d_d_set_2 (c_d_at (zl E) G htl h h_p0) k_80 k_77 k_79 k_s0 k_1 (by decide) (recv_D C) (by decide +kernel) rfl rfl (Nat.le_of_ble_eq_true rfl) hroom_d_at (fun r1 _s11 ok2 hq => ?_) (fun kx σx hx => by subst hQ; exact zt_leave C hX ⟨by decide, by decide⟩ hx)
  obtain ⟨hs_, hk_⟩ := hq
  subst hs_
  have h := hk_
  refine z_callV C "LimbDesk$Num" [] [] 0 d_d_set_5 (c_n_bits (zl E) G h ok2) k_155 k_152 k_153 k_154 k_2 (by decide) (recv_N C ok2) (by decide +kernel) rfl rfl (Nat.le_of_ble_eq_true rfl) hroom_n_bits (fun r3 _s10 ok4 hq => ?_) (fun _ _ hx => hx.elim)
  obtain ⟨hs_, hk_⟩ := hq
  subst hs_
  have h := hk_
  refine z_istore C [(4, .int (iI r3)), (0, .ref (zA G 42)), (1, .int (iI p0)), (2, .long (lL p1))] d_d_set_8 (by decide) rfl ?_
  refine z_aload_n C 1 d_d_set_10 rfl ?_
  refine z_iload_n C 2 d_d_set_11 rfl ?_
  refine z_callV C "LimbDesk" [.int (iI p0)] [] 1 d_d_set_12 (c_d_at (zl E) G htl h h_p0) k_80 k_77 k_79 k_s0 k_1 (by decide) (recv_D C) (by decide +kernel) rfl rfl (Nat.le_of_ble_eq_true rfl) hroom_d_at (fun r5 _s9 ok6 hq => ?_) (fun kx σx hx => by subst hQ; exact zt_leave C hX ⟨by decide, by decide⟩ hx)
  obtain ⟨hs_, hk_⟩ := hq
  subst hs_
  have h := hk_
  refine z_lload_n C 3 d_d_set_15 rfl ?_
  refine z_callV C "LimbDesk$Num" [.long (lL p1)] [] 1 d_d_set_16 (c_n_set (zl E) G h ok6 h_p1) k_163 k_160 k_161 k_162 k_2 (by decide) (recv_N C ok6) (by decide +kernel) rfl rfl (Nat.le_of_ble_eq_true rfl) hroom_n_set (fun _r σ7 ok8 hq => ?_) (fun _ _ hx => hx.elim)
  have h := hq
  refine z_iload C 0 d_d_set_19 rfl ?_
  subst hQ
  exact z_ireturn C d_d_set_21.1 hr ⟨Nat.zero_le _, Nat.zero_le _⟩ ok4 h
theorem d_d_line_0 : DD b_d_line 0 (.iconst 0) 1 1 := ⟨by decide +kernel, rfl⟩
theorem d_d_line_1 : DD b_d_line 1 (.istore_n 3) 1 2 := ⟨by decide +kernel, rfl⟩
theorem d_d_line_2 : DD b_d_line 2 (.iload_n 3) 1 3 := ⟨by decide +kernel, rfl⟩
theorem d_d_line_3 : DD b_d_line 3 (.bipush 8) 2 5 := ⟨by decide +kernel, rfl⟩
theorem d_d_line_5 : DB b_d_line 5 (.if_icmp .ge 45) 45 8 50 := ⟨by decide +kernel, rfl, rfl⟩
theorem d_d_line_8 : DD b_d_line 8 (.lload_n 1) 1 9 := ⟨by decide +kernel, rfl⟩
theorem d_d_line_9 : DD b_d_line 9 (.bipush 8) 2 11 := ⟨by decide +kernel, rfl⟩
theorem d_d_line_11 : DD b_d_line 11 (.iload_n 3) 1 12 := ⟨by decide +kernel, rfl⟩
theorem d_d_line_12 : DD b_d_line 12 .imul 1 13 := ⟨by decide +kernel, rfl⟩
theorem d_d_line_13 : DD b_d_line 13 .lushr 1 14 := ⟨by decide +kernel, rfl⟩
theorem d_d_line_14 : DD b_d_line 14 (.ldc2_w 71) 3 17 := ⟨by decide +kernel, rfl⟩
theorem d_d_line_17 : DD b_d_line 17 .land 1 18 := ⟨by decide +kernel, rfl⟩
theorem d_d_line_18 : DD b_d_line 18 (.lconst 0) 1 19 := ⟨by decide +kernel, rfl⟩
theorem d_d_line_19 : DD b_d_line 19 .lcmp 1 20 := ⟨by decide +kernel, rfl⟩
theorem d_d_line_20 : DB b_d_line 20 (.ifCond .eq 30) 30 23 50 := ⟨by decide +kernel, rfl, rfl⟩
theorem d_d_line_23 : DD b_d_line 23 (.lload_n 1) 1 24 := ⟨by decide +kernel, rfl⟩
theorem d_d_line_24 : DD b_d_line 24 (.bipush 8) 2 26 := ⟨by decide +kernel, rfl⟩
theorem d_d_line_26 : DD b_d_line 26 (.iload_n 3) 1 27 := ⟨by decide +kernel, rfl⟩
theorem d_d_line_27 : DD b_d_line 27 .imul 1 28 := ⟨by decide +kernel, rfl⟩
theorem d_d_line_28 : DD b_d_line 28 .lushr 1 29 := ⟨by decide +kernel, rfl⟩
theorem d_d_line_29 : DD b_d_line 29 (.ldc2_w 71) 3 32 := ⟨by decide +kernel, rfl⟩
theorem d_d_line_32 : DD b_d_line 32 .land 1 33 := ⟨by decide +kernel, rfl⟩
theorem d_d_line_33 : DD b_d_line 33 .l2i 1 34 := ⟨by decide +kernel, rfl⟩
theorem d_d_line_34 : DD b_d_line 34 (.bipush 32) 2 36 := ⟨by decide +kernel, rfl⟩
theorem d_d_line_36 : DD b_d_line 36 (.bipush 126) 2 38 := ⟨by decide +kernel, rfl⟩
theorem d_d_line_38 : DD b_d_line 38 (.invokestatic 44) 3 41 := ⟨by decide +kernel, rfl⟩
theorem d_d_line_41 : DD b_d_line 41 (.invokestatic 48) 3 44 := ⟨by decide +kernel, rfl⟩
theorem d_d_line_44 : DD b_d_line 44 (.iinc 3 1) 3 47 := ⟨by decide +kernel, rfl⟩
theorem d_d_line_47 : DB b_d_line 47 (.goto (-45)) (-45) 50 2 := ⟨by decide +kernel, rfl, rfl⟩
theorem d_d_line_50 : DD b_d_line 50 (.iload_n 3) 1 51 := ⟨by decide +kernel, rfl⟩
theorem d_d_line_51 : DB b_d_line 51 (.ifCond .le 7) 7 54 58 := ⟨by decide +kernel, rfl, rfl⟩
theorem d_d_line_54 : DD b_d_line 54 (.iconst 1) 1 55 := ⟨by decide +kernel, rfl⟩
theorem d_d_line_55 : DB b_d_line 55 (.goto 4) 4 58 59 := ⟨by decide +kernel, rfl, rfl⟩
theorem d_d_line_58 : DD b_d_line 58 (.iconst 0) 1 59 := ⟨by decide +kernel, rfl⟩
theorem d_d_line_59 : DD b_d_line 59 (.invokestatic 48) 3 62 := ⟨by decide +kernel, rfl⟩
theorem d_d_line_62 : DD b_d_line 62 (.aload_n 0) 1 63 := ⟨by decide +kernel, rfl⟩
theorem d_d_line_63 : DD b_d_line 63 (.getfield 73) 3 66 := ⟨by decide +kernel, rfl⟩
theorem d_d_line_66 : DD b_d_line 66 (.iload_n 3) 1 67 := ⟨by decide +kernel, rfl⟩
theorem d_d_line_67 : DD b_d_line 67 .iadd 1 68 := ⟨by decide +kernel, rfl⟩
theorem d_d_line_68 : DD b_d_line 68 (.sipush 2100) 3 71 := ⟨by decide +kernel, rfl⟩
theorem d_d_line_71 : DB b_d_line 71 (.if_icmp .le 11) 11 74 82 := ⟨by decide +kernel, rfl, rfl⟩
theorem d_d_line_74 : DD b_d_line 74 (.new 77) 3 77 := ⟨by decide +kernel, rfl⟩
theorem d_d_line_77 : DD b_d_line 77 .dup 1 78 := ⟨by decide +kernel, rfl⟩
theorem d_d_line_78 : DD b_d_line 78 (.invokespecial 79) 3 81 := ⟨by decide +kernel, rfl⟩
theorem d_d_line_81 : DD b_d_line 81 .athrow 1 82 := ⟨by decide +kernel, rfl⟩
theorem d_d_line_82 : DD b_d_line 82 (.iconst 0) 1 83 := ⟨by decide +kernel, rfl⟩
theorem d_d_line_83 : DD b_d_line 83 (.istore 4) 2 85 := ⟨by decide +kernel, rfl⟩
theorem d_d_line_85 : DD b_d_line 85 (.iload 4) 2 87 := ⟨by decide +kernel, rfl⟩
theorem d_d_line_87 : DD b_d_line 87 (.iload_n 3) 1 88 := ⟨by decide +kernel, rfl⟩
theorem d_d_line_88 : DB b_d_line 88 (.if_icmp .ge 34) 34 91 122 := ⟨by decide +kernel, rfl, rfl⟩
theorem d_d_line_91 : DD b_d_line 91 (.aload_n 0) 1 92 := ⟨by decide +kernel, rfl⟩
theorem d_d_line_92 : DD b_d_line 92 (.getfield 34) 3 95 := ⟨by decide +kernel, rfl⟩
theorem d_d_line_95 : DD b_d_line 95 (.aload_n 0) 1 96 := ⟨by decide +kernel, rfl⟩
theorem d_d_line_96 : DD b_d_line 96 .dup 1 97 := ⟨by decide +kernel, rfl⟩
theorem d_d_line_97 : DD b_d_line 97 (.getfield 73) 3 100 := ⟨by decide +kernel, rfl⟩
theorem d_d_line_100 : DD b_d_line 100 .dup_x1 1 101 := ⟨by decide +kernel, rfl⟩
theorem d_d_line_101 : DD b_d_line 101 (.iconst 1) 1 102 := ⟨by decide +kernel, rfl⟩
theorem d_d_line_102 : DD b_d_line 102 .iadd 1 103 := ⟨by decide +kernel, rfl⟩
theorem d_d_line_103 : DD b_d_line 103 (.putfield 73) 3 106 := ⟨by decide +kernel, rfl⟩
theorem d_d_line_106 : DD b_d_line 106 (.lload_n 1) 1 107 := ⟨by decide +kernel, rfl⟩
theorem d_d_line_107 : DD b_d_line 107 (.bipush 8) 2 109 := ⟨by decide +kernel, rfl⟩
theorem d_d_line_109 : DD b_d_line 109 (.iload 4) 2 111 := ⟨by decide +kernel, rfl⟩
theorem d_d_line_111 : DD b_d_line 111 .imul 1 112 := ⟨by decide +kernel, rfl⟩
theorem d_d_line_112 : DD b_d_line 112 .lushr 1 113 := ⟨by decide +kernel, rfl⟩
theorem d_d_line_113 : DD b_d_line 113 .l2i 1 114 := ⟨by decide +kernel, rfl⟩
theorem d_d_line_114 : DD b_d_line 114 .i2b 1 115 := ⟨by decide +kernel, rfl⟩
theorem d_d_line_115 : DD b_d_line 115 .bastore 1 116 := ⟨by decide +kernel, rfl⟩
theorem d_d_line_116 : DD b_d_line 116 (.iinc 4 1) 3 119 := ⟨by decide +kernel, rfl⟩
theorem d_d_line_119 : DB b_d_line 119 (.goto (-34)) (-34) 122 85 := ⟨by decide +kernel, rfl, rfl⟩
theorem d_d_line_122 : DD b_d_line 122 (.aload_n 0) 1 123 := ⟨by decide +kernel, rfl⟩
theorem d_d_line_123 : DD b_d_line 123 (.getfield 73) 3 126 := ⟨by decide +kernel, rfl⟩
theorem d_d_line_126 : DD b_d_line 126 .ireturn 1 127 := ⟨by decide +kernel, rfl⟩
set_option maxRecDepth 20000 in
set_option maxHeartbeats 4000000 in
theorem c_d_line (l : Launch) (G : ZG) (htl : l.stackTraces = false) {p0 : Int} {σ : Mem} {K : Int → Mem → Prop} {X : Int → Mem → Prop} (h : wp_d_line p0 σ K X) (h_p0 : okL p0) : Ct l G y_d_line (.code y_d_line b_d_line 5 (some .int)) { frames := 7, cells := 1, slots := 6, locals := 120 } 0 0 1 [.ref (zA G 42), .long (lL p0)] σ K X := by
  unfold wp_d_line at h
  refine Ct.ofZ [(0, .ref (zA G 42)), (1, .long (lL p0))] "LimbDesk" (by decide) rfl (Nat.le_of_ble_eq_true rfl) rfl ?_
  intro E hR hlE C hr hX
  subst hlE
  have hroom_d_good : 6 + 1 ≤ (zR E).frames ∧ 8 + (1 + 11) + 100 ≤ (zR E).locals ∧ 0 + 1 ≤ (zR E).cells ∧ 0 + 6 ≤ (zR E).slots := by rw [hR]; decide
  have hroom_d_in : 0 + 1 ≤ (zR E).frames ∧ 8 + (3 + 11) + 0 ≤ (zR E).locals ∧ 0 + 0 ≤ (zR E).cells ∧ 0 + 0 ≤ (zR E).slots := by rw [hR]; decide
  have hroomT : 6 ≤ (zR E).frames ∧ 100 ≤ (zR E).locals ∧ 0 + 1 ≤ (zR E).cells ∧ 0 + 6 ≤ (zR E).slots := by rw [hR]; decide
  clear hR
  obtain ⟨Q, hQ⟩ : ∃ Q, Q = MQX G (zb E) 1 K X (zs E) 0 0 1 6 := ⟨_, rfl⟩
  show Z E G 5 0 0 (MQX G (zb E) 1 K X (zs E) 0 0 1 6) σ 0 [(0, .ref (zA G 42)), (1, .long (lL p0))] []
  rw [← hQ]
  refine z_iconst C d_d_line_0 ?_
  refine z_istore_n C [(3, .int (iI 0)), (0, .ref (zA G 42)), (1, .long (lL p0))] d_d_line_1 (by decide) rfl ?_
  refine z_sub [(0, .ref (zA G 42)), (1, .long (lL p0)), (3, .int (iI 0))] [1, 2, 0] rfl ?_
  refine (Lq1.walk (P := fun v3_1 => okI v3_1 → Z E G 5 0 0 Q σ 2 [(0, .ref (zA G 42)), (1, .long (lL p0)), (3, .int (iI v3_1))] []) ?_ h) (okI_lit rfl)
  intro v3_1 again3 Hagain3 h ok2
  refine z_iload_n C 2 d_d_line_2 rfl ?_
  refine z_bipush C d_d_line_3 (by decide) ?_
  refine Jq0.walk (Z E G 5 0 0 Q σ 50 [(0, .ref (zA G 42)), (1, .long (lL p0)), (3, .int (iI v3_1))] []) h ?_ ?_
  · intro h
    refine z_iload_n C 2 d_d_line_50 rfl ?_
    have hj : ∀ s6 : Int, s6 = (if v3_1 ≤ 0 then 0 else 1) → Z E G 5 0 0 Q σ 59 [(0, .ref (zA G 42)), (1, .long (lL p0)), (3, .int (iI v3_1))] [.int (iI s6)] := by
      intro s6 e7
      have h := h s6 e7
      have ok8 : okI s6 := by rw [e7]; split; exact (okI_lit rfl); exact (okI_lit rfl)
      refine z_callS C [.int (iI s6)] [] 1 d_d_line_59 (c_d_good (zl E) G htl h ok8) k_86 k_84 k_85 k_1 (by decide)  (by decide +kernel) rfl rfl (Nat.le_of_ble_eq_true rfl) hroom_d_good (fun _r _s22 ok9 hq => ?_) (fun kx σx hx => by subst hQ; exact zt_leave C hX ⟨by decide, by decide⟩ hx)
      obtain ⟨hs_, hk_⟩ := hq
      subst hs_
      have h := hk_
      refine z_aload_n C 0 d_d_line_62 rfl ?_
      refine z_dget C 7 d_d_line_63 (by decide) k_50 rfl rfl ?_
      refine z_iload_n C 2 d_d_line_66 rfl ?_
      refine z_iadd C d_d_line_67 ?_
      refine z_sipush C d_d_line_68 (by decide) ?_
      obtain ⟨ok10, h⟩ := h
      refine z_icmp_le C d_d_line_71 ok10 (okI_lit rfl) (fun hb11 => ?_) (fun hb11 => ?_)
      · have h := h.1 hb11
        refine z_iconst C d_d_line_82 ?_
        refine z_istore C [(4, .int (iI 0)), (0, .ref (zA G 42)), (1, .long (lL p0)), (3, .int (iI v3_1))] d_d_line_83 (by decide) rfl ?_
        refine z_sub [(0, .ref (zA G 42)), (1, .long (lL p0)), (3, .int (iI v3_1)), (4, .int (iI 0))] [1, 2, 3, 0] rfl ?_
        refine (Lo1.walk (P := fun v4_12 σ13 => okI v4_12 → Z E G 5 0 0 Q σ13 85 [(0, .ref (zA G 42)), (1, .long (lL p0)), (3, .int (iI v3_1)), (4, .int (iI v4_12))] []) ?_ h) (okI_lit rfl)
        intro v4_12 σ13 again15 Hagain15 h ok14
        refine z_iload C 3 d_d_line_85 rfl ?_
        refine z_iload_n C 2 d_d_line_87 rfl ?_
        refine z_icmp_ge C d_d_line_88 ok14 ok2 (fun hb16 => ?_) (fun hb16 => ?_)
        · have h := h.1 hb16
          refine z_aload_n C 0 d_d_line_122 rfl ?_
          refine z_dget C 7 d_d_line_123 (by decide) k_50 rfl rfl ?_
          obtain ⟨ok17, h⟩ := h
          subst hQ
          exact z_ireturn C d_d_line_126.1 hr ⟨Nat.zero_le _, Nat.zero_le _⟩ ok17 h
        · have h := h.2 hb16
          refine z_aload_n C 0 d_d_line_91 rfl ?_
          refine z_dget C 6 d_d_line_92 (by decide) k_49 rfl rfl ?_
          refine z_aload_n C 0 d_d_line_95 rfl ?_
          refine z_dup C d_d_line_96 rfl ?_
          refine z_dget C 7 d_d_line_97 (by decide) k_50 rfl rfl ?_
          refine z_dup_x1 C d_d_line_100 rfl rfl ?_
          refine z_iconst C d_d_line_101 ?_
          refine z_iadd C d_d_line_102 ?_
          refine z_dput_letters C d_d_line_103 k_50 ?_
          refine z_lload_n C 1 d_d_line_106 rfl ?_
          refine z_bipush C d_d_line_107 (by decide) ?_
          refine z_iload C 3 d_d_line_109 rfl ?_
          refine z_imul C d_d_line_111 ?_
          obtain ⟨hc18, h⟩ := h
          refine z_lushr C d_d_line_112 hc18 ?_
          refine z_l2i C d_d_line_113 ?_
          refine z_i2b C d_d_line_114 ?_
          obtain ⟨hc19, h⟩ := h
          obtain ⟨hc20, h⟩ := h
          refine z_bast C d_d_line_115 hc19 hc20 ?_
          refine z_iinc C 3 [(4, .int (iI (v4_12 + 1))), (0, .ref (zA G 42)), (1, .long (lL p0)), (3, .int (iI v3_1))] d_d_line_116 rfl (by decide) rfl ?_
          refine z_goto C d_d_line_119 ?_
          obtain ⟨ok21, h⟩ := h
          refine z_sub [(0, .ref (zA G 42)), (1, .long (lL p0)), (3, .int (iI v3_1)), (4, .int (iI (v4_12 + 1)))] [1, 2, 3, 0] rfl ?_
          exact Hagain15 _ _ h ok21
      · have h := h.2 hb11
        subst hQ
        exact z_throw C hX htl 3 (by decide) (by decide +kernel) d_d_line_74 d_d_line_77 d_d_line_78.1 d_d_line_81.1 k_209 k_210 k_9 zown_3 hroomT (Nat.le_of_ble_eq_true rfl) ⟨by decide, by decide⟩ h
    clear h
    refine z_if_le C d_d_line_51 ok2 (fun hb5 => ?_) (fun hb5 => ?_)
    · refine z_iconst C d_d_line_58 ?_
      exact hj _ (if_pos hb5).symm
    · refine z_iconst C d_d_line_54 ?_
      refine z_goto C d_d_line_55 ?_
      exact hj _ (if_neg (Int.not_le.mpr hb5)).symm
  · intro J4 HJ4 h
    refine z_icmp_ge C d_d_line_5 ok2 (okI_lit rfl) (fun hb23 => ?_) (fun hb23 => ?_)
    · have h := h.1 hb23
      refine z_sub [(0, .ref (zA G 42)), (1, .long (lL p0)), (3, .int (iI v3_1))] [0, 1, 2] rfl ?_
      exact HJ4 h
    · have h := h.2 hb23
      refine z_lload_n C 1 d_d_line_8 rfl ?_
      refine z_bipush C d_d_line_9 (by decide) ?_
      refine z_iload_n C 2 d_d_line_11 rfl ?_
      refine z_imul C d_d_line_12 ?_
      obtain ⟨hc24, h⟩ := h
      refine z_lushr C d_d_line_13 hc24 ?_
      refine z_ldc2 C d_d_line_14 k_208 (n := 255) (by decide) ?_
      refine z_lmask C 8 256 d_d_line_17 (by decide) (by decide) (by decide) ?_
      refine z_lconst C d_d_line_18 ?_
      refine z_lcmp_eq0 C d_d_line_19 d_d_line_20 (okE_L (okL_mod (by decide) (by decide))) (fun hb26 => ?_) (fun hb26 => ?_)
      · have h := h.1 hb26
        refine z_sub [(0, .ref (zA G 42)), (1, .long (lL p0)), (3, .int (iI v3_1))] [0, 1, 2] rfl ?_
        exact HJ4 h
      · have h := h.2 hb26
        refine z_lload_n C 1 d_d_line_23 rfl ?_
        refine z_bipush C d_d_line_24 (by decide) ?_
        refine z_iload_n C 2 d_d_line_26 rfl ?_
        refine z_imul C d_d_line_27 ?_
        refine z_lushr C d_d_line_28 hc24 ?_
        refine z_ldc2 C d_d_line_29 k_208 (n := 255) (by decide) ?_
        refine z_lmask C 8 256 d_d_line_32 (by decide) (by decide) (by decide) ?_
        refine z_l2i C d_d_line_33 ?_
        refine z_bipush C d_d_line_34 (by decide) ?_
        refine z_bipush C d_d_line_36 (by decide) ?_
        refine z_callS C [.int (iI ((p0 % 18446744073709551616 / 2 ^ ((8 * v3_1)).toNat) % 256)), .int (iI 32), .int (iI 126)] [] 3 d_d_line_38 (c_d_in (zl E) G h (okI_mod (by decide) (by decide)) (okI_lit rfl) (okI_lit rfl)) k_83 k_81 k_82 k_1 (by decide)  (by decide +kernel) rfl rfl (Nat.le_of_ble_eq_true rfl) hroom_d_in (fun r27 _s32 ok28 hq => ?_) (fun _ _ hx => hx.elim)
        obtain ⟨hs_, hk_⟩ := hq
        subst hs_
        have h := hk_
        refine z_callS C [.int (iI r27)] [] 1 d_d_line_41 (c_d_good (zl E) G htl h (okI_b ok28)) k_86 k_84 k_85 k_1 (by decide)  (by decide +kernel) rfl rfl (Nat.le_of_ble_eq_true rfl) hroom_d_good (fun _r _s31 ok29 hq => ?_) (fun kx σx hx => by subst hQ; exact zt_leave C hX ⟨by decide, by decide⟩ hx)
        obtain ⟨hs_, hk_⟩ := hq
        subst hs_
        have h := hk_
        refine z_iinc C 2 [(3, .int (iI (v3_1 + 1))), (0, .ref (zA G 42)), (1, .long (lL p0))] d_d_line_44 rfl (by decide) rfl ?_
        refine z_goto C d_d_line_47 ?_
        obtain ⟨ok30, h⟩ := h
        refine z_sub [(0, .ref (zA G 42)), (1, .long (lL p0)), (3, .int (iI (v3_1 + 1)))] [1, 2, 0] rfl ?_
        exact Hagain3 _ h ok30
theorem d_d_read_0 : DD b_d_read 0 (.aload_n 0) 1 1 := ⟨by decide +kernel, rfl⟩
theorem d_d_read_1 : DD b_d_read 1 (.getfield 73) 3 4 := ⟨by decide +kernel, rfl⟩
theorem d_d_read_4 : DD b_d_read 4 (.istore_n 3) 1 5 := ⟨by decide +kernel, rfl⟩
theorem d_d_read_5 : DD b_d_read 5 (.iload_n 3) 1 6 := ⟨by decide +kernel, rfl⟩
theorem d_d_read_6 : DB b_d_read 6 (.ifCond .le 18) 18 9 24 := ⟨by decide +kernel, rfl, rfl⟩
theorem d_d_read_9 : DD b_d_read 9 (.aload_n 0) 1 10 := ⟨by decide +kernel, rfl⟩
theorem d_d_read_10 : DD b_d_read 10 (.getfield 34) 3 13 := ⟨by decide +kernel, rfl⟩
theorem d_d_read_13 : DD b_d_read 13 (.iconst 0) 1 14 := ⟨by decide +kernel, rfl⟩
theorem d_d_read_14 : DD b_d_read 14 .baload 1 15 := ⟨by decide +kernel, rfl⟩
theorem d_d_read_15 : DD b_d_read 15 (.bipush 45) 2 17 := ⟨by decide +kernel, rfl⟩
theorem d_d_read_17 : DB b_d_read 17 (.if_icmp .ne 7) 7 20 24 := ⟨by decide +kernel, rfl, rfl⟩
theorem d_d_read_20 : DD b_d_read 20 (.iconst 1) 1 21 := ⟨by decide +kernel, rfl⟩
theorem d_d_read_21 : DB b_d_read 21 (.goto 4) 4 24 25 := ⟨by decide +kernel, rfl, rfl⟩
theorem d_d_read_24 : DD b_d_read 24 (.iconst 0) 1 25 := ⟨by decide +kernel, rfl⟩
theorem d_d_read_25 : DD b_d_read 25 (.istore 4) 2 27 := ⟨by decide +kernel, rfl⟩
theorem d_d_read_27 : DD b_d_read 27 (.aload_n 0) 1 28 := ⟨by decide +kernel, rfl⟩
theorem d_d_read_28 : DD b_d_read 28 (.iconst 0) 1 29 := ⟨by decide +kernel, rfl⟩
theorem d_d_read_29 : DD b_d_read 29 (.putfield 73) 3 32 := ⟨by decide +kernel, rfl⟩
theorem d_d_read_32 : DD b_d_read 32 (.aload_n 0) 1 33 := ⟨by decide +kernel, rfl⟩
theorem d_d_read_33 : DD b_d_read 33 (.iload_n 1) 1 34 := ⟨by decide +kernel, rfl⟩
theorem d_d_read_34 : DD b_d_read 34 (.invokevirtual 63) 3 37 := ⟨by decide +kernel, rfl⟩
theorem d_d_read_37 : DD b_d_read 37 (.astore 5) 2 39 := ⟨by decide +kernel, rfl⟩
theorem d_d_read_39 : DD b_d_read 39 (.iload_n 2) 1 40 := ⟨by decide +kernel, rfl⟩
theorem d_d_read_40 : DD b_d_read 40 (.iconst 2) 1 41 := ⟨by decide +kernel, rfl⟩
theorem d_d_read_41 : DD b_d_read 41 (.bipush 36) 2 43 := ⟨by decide +kernel, rfl⟩
theorem d_d_read_43 : DD b_d_read 43 (.invokestatic 44) 3 46 := ⟨by decide +kernel, rfl⟩
theorem d_d_read_46 : DB b_d_read 46 (.ifCond .eq 13) 13 49 59 := ⟨by decide +kernel, rfl, rfl⟩
theorem d_d_read_49 : DD b_d_read 49 (.iload_n 3) 1 50 := ⟨by decide +kernel, rfl⟩
theorem d_d_read_50 : DD b_d_read 50 (.iload 4) 2 52 := ⟨by decide +kernel, rfl⟩
theorem d_d_read_52 : DB b_d_read 52 (.if_icmp .le 7) 7 55 59 := ⟨by decide +kernel, rfl, rfl⟩
theorem d_d_read_55 : DD b_d_read 55 (.iconst 1) 1 56 := ⟨by decide +kernel, rfl⟩
theorem d_d_read_56 : DB b_d_read 56 (.goto 4) 4 59 60 := ⟨by decide +kernel, rfl, rfl⟩
theorem d_d_read_59 : DD b_d_read 59 (.iconst 0) 1 60 := ⟨by decide +kernel, rfl⟩
theorem d_d_read_60 : DD b_d_read 60 (.invokestatic 48) 3 63 := ⟨by decide +kernel, rfl⟩
theorem d_d_read_63 : DD b_d_read 63 (.iload 4) 2 65 := ⟨by decide +kernel, rfl⟩
theorem d_d_read_65 : DD b_d_read 65 (.istore 6) 2 67 := ⟨by decide +kernel, rfl⟩
theorem d_d_read_67 : DD b_d_read 67 (.iload 6) 2 69 := ⟨by decide +kernel, rfl⟩
theorem d_d_read_69 : DD b_d_read 69 (.iload_n 3) 1 70 := ⟨by decide +kernel, rfl⟩
theorem d_d_read_70 : DB b_d_read 70 (.if_icmp .ge 31) 31 73 101 := ⟨by decide +kernel, rfl, rfl⟩
theorem d_d_read_73 : DD b_d_read 73 (.aload_n 0) 1 74 := ⟨by decide +kernel, rfl⟩
theorem d_d_read_74 : DD b_d_read 74 (.getfield 34) 3 77 := ⟨by decide +kernel, rfl⟩
theorem d_d_read_77 : DD b_d_read 77 (.iload 6) 2 79 := ⟨by decide +kernel, rfl⟩
theorem d_d_read_79 : DD b_d_read 79 .baload 1 80 := ⟨by decide +kernel, rfl⟩
theorem d_d_read_80 : DD b_d_read 80 (.invokestatic 80) 3 83 := ⟨by decide +kernel, rfl⟩
theorem d_d_read_83 : DD b_d_read 83 (.iload_n 2) 1 84 := ⟨by decide +kernel, rfl⟩
theorem d_d_read_84 : DB b_d_read 84 (.if_icmp .ge 7) 7 87 91 := ⟨by decide +kernel, rfl, rfl⟩
theorem d_d_read_87 : DD b_d_read 87 (.iconst 1) 1 88 := ⟨by decide +kernel, rfl⟩
theorem d_d_read_88 : DB b_d_read 88 (.goto 4) 4 91 92 := ⟨by decide +kernel, rfl, rfl⟩
theorem d_d_read_91 : DD b_d_read 91 (.iconst 0) 1 92 := ⟨by decide +kernel, rfl⟩
theorem d_d_read_92 : DD b_d_read 92 (.invokestatic 48) 3 95 := ⟨by decide +kernel, rfl⟩
theorem d_d_read_95 : DD b_d_read 95 (.iinc 6 1) 3 98 := ⟨by decide +kernel, rfl⟩
theorem d_d_read_98 : DB b_d_read 98 (.goto (-31)) (-31) 101 67 := ⟨by decide +kernel, rfl, rfl⟩
theorem d_d_read_101 : DD b_d_read 101 (.iload 4) 2 103 := ⟨by decide +kernel, rfl⟩
theorem d_d_read_103 : DD b_d_read 103 (.istore 6) 2 105 := ⟨by decide +kernel, rfl⟩
theorem d_d_read_105 : DD b_d_read 105 (.iload 6) 2 107 := ⟨by decide +kernel, rfl⟩
theorem d_d_read_107 : DD b_d_read 107 (.iload_n 3) 1 108 := ⟨by decide +kernel, rfl⟩
theorem d_d_read_108 : DB b_d_read 108 (.if_icmp .ge 21) 21 111 129 := ⟨by decide +kernel, rfl, rfl⟩
theorem d_d_read_111 : DD b_d_read 111 (.aload_n 0) 1 112 := ⟨by decide +kernel, rfl⟩
theorem d_d_read_112 : DD b_d_read 112 (.getfield 34) 3 115 := ⟨by decide +kernel, rfl⟩
theorem d_d_read_115 : DD b_d_read 115 (.iload 6) 2 117 := ⟨by decide +kernel, rfl⟩
theorem d_d_read_117 : DD b_d_read 117 .baload 1 118 := ⟨by decide +kernel, rfl⟩
theorem d_d_read_118 : DD b_d_read 118 (.bipush 48) 2 120 := ⟨by decide +kernel, rfl⟩
theorem d_d_read_120 : DB b_d_read 120 (.if_icmp .ne 9) 9 123 129 := ⟨by decide +kernel, rfl, rfl⟩
theorem d_d_read_123 : DD b_d_read 123 (.iinc 6 1) 3 126 := ⟨by decide +kernel, rfl⟩
theorem d_d_read_126 : DB b_d_read 126 (.goto (-21)) (-21) 129 105 := ⟨by decide +kernel, rfl, rfl⟩
theorem d_d_read_129 : DD b_d_read 129 (.iload_n 3) 1 130 := ⟨by decide +kernel, rfl⟩
theorem d_d_read_130 : DD b_d_read 130 (.iload 6) 2 132 := ⟨by decide +kernel, rfl⟩
theorem d_d_read_132 : DD b_d_read 132 .isub 1 133 := ⟨by decide +kernel, rfl⟩
theorem d_d_read_133 : DD b_d_read 133 (.sipush 2048) 3 136 := ⟨by decide +kernel, rfl⟩
theorem d_d_read_136 : DB b_d_read 136 (.if_icmp .gt 7) 7 139 143 := ⟨by decide +kernel, rfl, rfl⟩
theorem d_d_read_139 : DD b_d_read 139 (.iconst 1) 1 140 := ⟨by decide +kernel, rfl⟩
theorem d_d_read_140 : DB b_d_read 140 (.goto 4) 4 143 144 := ⟨by decide +kernel, rfl, rfl⟩
theorem d_d_read_143 : DD b_d_read 143 (.iconst 0) 1 144 := ⟨by decide +kernel, rfl⟩
theorem d_d_read_144 : DD b_d_read 144 (.invokestatic 56) 3 147 := ⟨by decide +kernel, rfl⟩
theorem d_d_read_147 : DD b_d_read 147 (.aload_n 0) 1 148 := ⟨by decide +kernel, rfl⟩
theorem d_d_read_148 : DD b_d_read 148 (.getfield 18) 3 151 := ⟨by decide +kernel, rfl⟩
theorem d_d_read_151 : DD b_d_read 151 (.aload_n 0) 1 152 := ⟨by decide +kernel, rfl⟩
theorem d_d_read_152 : DD b_d_read 152 (.getfield 34) 3 155 := ⟨by decide +kernel, rfl⟩
theorem d_d_read_155 : DD b_d_read 155 (.iload 6) 2 157 := ⟨by decide +kernel, rfl⟩
theorem d_d_read_157 : DD b_d_read 157 (.iload_n 3) 1 158 := ⟨by decide +kernel, rfl⟩
theorem d_d_read_158 : DD b_d_read 158 (.iload_n 2) 1 159 := ⟨by decide +kernel, rfl⟩
theorem d_d_read_159 : DD b_d_read 159 (.invokevirtual 84) 3 162 := ⟨by decide +kernel, rfl⟩
theorem d_d_read_162 : DD b_d_read 162 (.aload_n 0) 1 163 := ⟨by decide +kernel, rfl⟩
theorem d_d_read_163 : DD b_d_read 163 (.getfield 18) 3 166 := ⟨by decide +kernel, rfl⟩
theorem d_d_read_166 : DD b_d_read 166 (.invokevirtual 52) 3 169 := ⟨by decide +kernel, rfl⟩
theorem d_d_read_169 : DD b_d_read 169 (.sipush 2048) 3 172 := ⟨by decide +kernel, rfl⟩
theorem d_d_read_172 : DB b_d_read 172 (.if_icmp .gt 7) 7 175 179 := ⟨by decide +kernel, rfl, rfl⟩
theorem d_d_read_175 : DD b_d_read 175 (.iconst 1) 1 176 := ⟨by decide +kernel, rfl⟩
theorem d_d_read_176 : DB b_d_read 176 (.goto 4) 4 179 180 := ⟨by decide +kernel, rfl, rfl⟩
theorem d_d_read_179 : DD b_d_read 179 (.iconst 0) 1 180 := ⟨by decide +kernel, rfl⟩
theorem d_d_read_180 : DD b_d_read 180 (.invokestatic 56) 3 183 := ⟨by decide +kernel, rfl⟩
theorem d_d_read_183 : DD b_d_read 183 (.iload 4) 2 185 := ⟨by decide +kernel, rfl⟩
theorem d_d_read_185 : DD b_d_read 185 (.iconst 1) 1 186 := ⟨by decide +kernel, rfl⟩
theorem d_d_read_186 : DB b_d_read 186 (.if_icmp .ne 18) 18 189 204 := ⟨by decide +kernel, rfl, rfl⟩
theorem d_d_read_189 : DD b_d_read 189 (.aload_n 0) 1 190 := ⟨by decide +kernel, rfl⟩
theorem d_d_read_190 : DD b_d_read 190 (.getfield 18) 3 193 := ⟨by decide +kernel, rfl⟩
theorem d_d_read_193 : DD b_d_read 193 (.aload_n 0) 1 194 := ⟨by decide +kernel, rfl⟩
theorem d_d_read_194 : DD b_d_read 194 (.getfield 18) 3 197 := ⟨by decide +kernel, rfl⟩
theorem d_d_read_197 : DD b_d_read 197 (.getfield 88) 3 200 := ⟨by decide +kernel, rfl⟩
theorem d_d_read_200 : DD b_d_read 200 .ineg 1 201 := ⟨by decide +kernel, rfl⟩
theorem d_d_read_201 : DD b_d_read 201 (.putfield 88) 3 204 := ⟨by decide +kernel, rfl⟩
theorem d_d_read_204 : DD b_d_read 204 (.aload_n 0) 1 205 := ⟨by decide +kernel, rfl⟩
theorem d_d_read_205 : DD b_d_read 205 (.aload 5) 2 207 := ⟨by decide +kernel, rfl⟩
theorem d_d_read_207 : DD b_d_read 207 (.invokevirtual 91) 3 210 := ⟨by decide +kernel, rfl⟩
theorem d_d_read_210 : DD b_d_read 210 (.invokevirtual 52) 3 213 := ⟨by decide +kernel, rfl⟩
theorem d_d_read_213 : DD b_d_read 213 .ireturn 1 214 := ⟨by decide +kernel, rfl⟩
set_option maxRecDepth 20000 in
set_option maxHeartbeats 4000000 in
theorem c_d_read (l : Launch) (G : ZG) (htl : l.stackTraces = false) {p0 p1 : Int} {σ : Mem} {K : Int → Mem → Prop} {X : Int → Mem → Prop} (h : wp_d_read p0 p1 σ K X) (h_p0 : okI p0) (h_p1 : okI p1) : Ct l G y_d_read (.code y_d_read b_d_read 7 (some .int)) { frames := 8, cells := 1, slots := 6, locals := 141 } 0 0 1 [.ref (zA G 42), .int (iI p0), .int (iI p1)] σ K X := by
  unfold wp_d_read at h
  refine Ct.ofZ [(0, .ref (zA G 42)), (1, .int (iI p0)), (2, .int (iI p1))] "LimbDesk" (by decide) rfl (Nat.le_of_ble_eq_true rfl) rfl ?_
  intro E hR hlE C hr hX
  subst hlE
  have hroom_d_at : 7 + 1 ≤ (zR E).frames ∧ 8 + (2 + 11) + 120 ≤ (zR E).locals ∧ 0 + 1 ≤ (zR E).cells ∧ 0 + 6 ≤ (zR E).slots := by rw [hR]; decide
  have hroom_d_fits : 6 + 1 ≤ (zR E).frames ∧ 8 + (1 + 11) + 100 ≤ (zR E).locals ∧ 0 + 1 ≤ (zR E).cells ∧ 0 + 6 ≤ (zR E).slots := by rw [hR]; decide
  have hroom_d_good : 6 + 1 ≤ (zR E).frames ∧ 8 + (1 + 11) + 100 ≤ (zR E).locals ∧ 0 + 1 ≤ (zR E).cells ∧ 0 + 6 ≤ (zR E).slots := by rw [hR]; decide
  have hroom_d_in : 0 + 1 ≤ (zR E).frames ∧ 8 + (3 + 11) + 0 ≤ (zR E).locals ∧ 0 + 0 ≤ (zR E).cells ∧ 0 + 0 ≤ (zR E).slots := by rw [hR]; decide
  have hroom_d_into : 7 + 1 ≤ (zR E).frames ∧ 8 + (2 + 11) + 120 ≤ (zR E).locals ∧ 0 + 1 ≤ (zR E).cells ∧ 0 + 6 ≤ (zR E).slots := by rw [hR]; decide
  have hroom_n_bits : 1 + 1 ≤ (zR E).frames ∧ 8 + (1 + 11) + 21 ≤ (zR E).locals ∧ 0 + 0 ≤ (zR E).cells ∧ 0 + 0 ≤ (zR E).slots := by rw [hR]; decide
  have hroom_n_digit : 0 + 1 ≤ (zR E).frames ∧ 8 + (1 + 11) + 0 ≤ (zR E).locals ∧ 0 + 0 ≤ (zR E).cells ∧ 0 + 0 ≤ (zR E).slots := by rw [hR]; decide
  have hroom_n_parse : 1 + 1 ≤ (zR E).frames ∧ 8 + (15 + 11) + 22 ≤ (zR E).locals ∧ 0 + 0 ≤ (zR E).cells ∧ 0 + 0 ≤ (zR E).slots := by rw [hR]; decide
  clear hR
  obtain ⟨Q, hQ⟩ : ∃ Q, Q = MQX G (zb E) 1 K X (zs E) 0 0 1 6 := ⟨_, rfl⟩
  show Z E G 7 0 0 (MQX G (zb E) 1 K X (zs E) 0 0 1 6) σ 0 [(0, .ref (zA G 42)), (1, .int (iI p0)), (2, .int (iI p1))] []
  rw [← hQ]
  refine z_aload_n C 0 d_d_read_0 rfl ?_
  refine z_dget C 7 d_d_read_1 (by decide) k_50 rfl rfl ?_
  refine z_namei (fun v3_1 e2 => ?_)
  have h := h v3_1 e2
  refine z_istore_n C [(3, .int (iI v3_1)), (0, .ref (zA G 42)), (1, .int (iI p0)), (2, .int (iI p1))] d_d_read_4 (by decide) rfl ?_
  refine z_iload_n C 0 d_d_read_5 rfl ?_
  obtain ⟨ok3, h⟩ := h
  refine Jq1.walk (fun s4 => okI s4 → Z E G 7 0 0 Q σ 25 [(0, .ref (zA G 42)), (1, .int (iI p0)), (2, .int (iI p1)), (3, .int (iI v3_1))] [.int (iI s4)]) h ?_ ?_
  · intro s4 h ok5
    refine z_istore C [(4, .int (iI s4)), (0, .ref (zA G 42)), (1, .int (iI p0)), (2, .int (iI p1)), (3, .int (iI v3_1))] d_d_read_25 (by decide) rfl ?_
    refine z_aload_n C 1 d_d_read_27 rfl ?_
    refine z_iconst C d_d_read_28 ?_
    refine z_dput_letters C d_d_read_29 k_50 ?_
    refine z_aload_n C 1 d_d_read_32 rfl ?_
    refine z_iload_n C 2 d_d_read_33 rfl ?_
    refine z_callV C "LimbDesk" [.int (iI p0)] [] 1 d_d_read_34 (c_d_at (zl E) G htl h h_p0) k_80 k_77 k_79 k_s0 k_1 (by decide) (recv_D C) (by decide +kernel) rfl rfl (Nat.le_of_ble_eq_true rfl) hroom_d_at (fun r7 _s72 ok8 hq => ?_) (fun kx σx hx => by subst hQ; exact zt_leave C hX ⟨by decide, by decide⟩ hx)
    obtain ⟨hs_, hk_⟩ := hq
    subst hs_
    have h := hk_
    refine z_astore C [(5, .ref (zA G r7)), (4, .int (iI s4)), (0, .ref (zA G 42)), (1, .int (iI p0)), (2, .int (iI p1)), (3, .int (iI v3_1))] d_d_read_37 (by decide) rfl ?_
    refine z_iload_n C 4 d_d_read_39 rfl ?_
    refine z_iconst C d_d_read_40 ?_
    refine z_bipush C d_d_read_41 (by decide) ?_
    refine z_callS C [.int (iI p1), .int (iI 2), .int (iI 36)] [] 3 d_d_read_43 (c_d_in (zl E) G h h_p1 (okI_lit rfl) (okI_lit rfl)) k_83 k_81 k_82 k_1 (by decide)  (by decide +kernel) rfl rfl (Nat.le_of_ble_eq_true rfl) hroom_d_in (fun r9 _s71 ok10 hq => ?_) (fun _ _ hx => hx.elim)
    obtain ⟨hs_, hk_⟩ := hq
    subst hs_
    have h := hk_
    refine Jq1.walk (fun s11 => okI s11 → Z E G 7 0 0 Q (mS σ 42 7 0) 60 [(0, .ref (zA G 42)), (2, .int (iI p1)), (3, .int (iI v3_1)), (4, .int (iI s4)), (5, .ref (zA G r7))] [.int (iI s11)]) h ?_ ?_
    · intro s11 h ok12
      refine z_callS C [.int (iI s11)] [] 1 d_d_read_60 (c_d_good (zl E) G htl h ok12) k_86 k_84 k_85 k_1 (by decide)  (by decide +kernel) rfl rfl (Nat.le_of_ble_eq_true rfl) hroom_d_good (fun _r _s67 ok14 hq => ?_) (fun kx σx hx => by subst hQ; exact zt_leave C hX ⟨by decide, by decide⟩ hx)
      obtain ⟨hs_, hk_⟩ := hq
      subst hs_
      have h := hk_
      refine z_iload C 3 d_d_read_63 rfl ?_
      refine z_istore C [(6, .int (iI s4)), (0, .ref (zA G 42)), (2, .int (iI p1)), (3, .int (iI v3_1)), (4, .int (iI s4)), (5, .ref (zA G r7))] d_d_read_65 (by decide) rfl ?_
      refine z_sub [(0, .ref (zA G 42)), (2, .int (iI p1)), (3, .int (iI v3_1)), (4, .int (iI s4)), (5, .ref (zA G r7)), (6, .int (iI s4))] [1, 2, 3, 4, 5, 0] rfl ?_
      refine (Lq1.walk (P := fun v6_15 => okI v6_15 → Z E G 7 0 0 Q (mS σ 42 7 0) 67 [(0, .ref (zA G 42)), (2, .int (iI p1)), (3, .int (iI v3_1)), (4, .int (iI s4)), (5, .ref (zA G r7)), (6, .int (iI v6_15))] []) ?_ h) ok5
      intro v6_15 again17 Hagain17 h ok16
      refine z_iload C 5 d_d_read_67 rfl ?_
      refine z_iload_n C 2 d_d_read_69 rfl ?_
      refine z_icmp_ge C d_d_read_70 ok16 ok3 (fun hb18 => ?_) (fun hb18 => ?_)
      · have h := h.1 hb18
        refine z_iload C 3 d_d_read_101 rfl ?_
        refine z_istore C [(6, .int (iI s4)), (0, .ref (zA G 42)), (2, .int (iI p1)), (3, .int (iI v3_1)), (4, .int (iI s4)), (5, .ref (zA G r7))] d_d_read_103 (by decide) rfl ?_
        refine z_sub [(0, .ref (zA G 42)), (2, .int (iI p1)), (3, .int (iI v3_1)), (4, .int (iI s4)), (5, .ref (zA G r7)), (6, .int (iI s4))] [1, 2, 3, 4, 5, 0] rfl ?_
        refine (Lq1.walk (P := fun v6_19 => okI v6_19 → Z E G 7 0 0 Q (mS σ 42 7 0) 105 [(0, .ref (zA G 42)), (2, .int (iI p1)), (3, .int (iI v3_1)), (4, .int (iI s4)), (5, .ref (zA G r7)), (6, .int (iI v6_19))] []) ?_ h) ok5
        intro v6_19 again21 Hagain21 h ok20
        refine z_iload C 5 d_d_read_105 rfl ?_
        refine z_iload_n C 2 d_d_read_107 rfl ?_
        refine Jq0.walk (Z E G 7 0 0 Q (mS σ 42 7 0) 129 [(0, .ref (zA G 42)), (2, .int (iI p1)), (3, .int (iI v3_1)), (4, .int (iI s4)), (5, .ref (zA G r7)), (6, .int (iI v6_19))] []) h ?_ ?_
        · intro h
          refine z_iload_n C 2 d_d_read_129 rfl ?_
          refine z_iload C 5 d_d_read_130 rfl ?_
          refine z_isub C d_d_read_132 ?_
          refine z_sipush C d_d_read_133 (by decide) ?_
          obtain ⟨ok23, h⟩ := h
          have hj : ∀ s25 : Int, s25 = (if 2048 < (v3_1 - v6_19) then 0 else 1) → Z E G 7 0 0 Q (mS σ 42 7 0) 144 [(0, .ref (zA G 42)), (2, .int (iI p1)), (3, .int (iI v3_1)), (4, .int (iI s4)), (5, .ref (zA G r7)), (6, .int (iI v6_19))] [.int (iI s25)] := by
            intro s25 e26
            have h := h s25 e26
            have ok27 : okI s25 := by rw [e26]; split; exact (okI_lit rfl); exact (okI_lit rfl)
            refine z_callS C [.int (iI s25)] [] 1 d_d_read_144 (c_d_fits (zl E) G htl h ok27) k_250 k_248 k_249 k_1 (by decide)  (by decide +kernel) rfl rfl (Nat.le_of_ble_eq_true rfl) hroom_d_fits (fun _r _s49 ok28 hq => ?_) (fun kx σx hx => by subst hQ; exact zt_leave C hX ⟨by decide, by decide⟩ hx)
            obtain ⟨hs_, hk_⟩ := hq
            subst hs_
            have h := hk_
            refine z_aload_n C 0 d_d_read_147 rfl ?_
            refine z_dget C 1 d_d_read_148 (by decide) k_44 rfl rfl ?_
            refine z_aload_n C 0 d_d_read_151 rfl ?_
            refine z_dget C 6 d_d_read_152 (by decide) k_49 rfl rfl ?_
            refine z_iload C 5 d_d_read_155 rfl ?_
            refine z_iload_n C 2 d_d_read_157 rfl ?_
            refine z_iload_n C 1 d_d_read_158 rfl ?_
            refine z_callV C "LimbDesk$Num" [.ref (zA G 44), .int (iI v6_19), .int (iI v3_1), .int (iI p1)] [] 4 d_d_read_159 (c_n_parse (zl E) G h ⟨by decide, by decide⟩ ok20 ok3 h_p1) k_259 k_256 k_257 k_258 k_2 (by decide) (recv_N C ⟨by decide, by decide⟩) (by decide +kernel) rfl rfl (Nat.le_of_ble_eq_true rfl) hroom_n_parse (fun _r σ29 ok30 hq => ?_) (fun _ _ hx => hx.elim)
            have h := hq
            refine z_aload_n C 0 d_d_read_162 rfl ?_
            refine z_dget C 1 d_d_read_163 (by decide) k_44 rfl rfl ?_
            refine z_callV C "LimbDesk$Num" [] [] 0 d_d_read_166 (c_n_bits (zl E) G h ⟨by decide, by decide⟩) k_155 k_152 k_153 k_154 k_2 (by decide) (recv_N C ⟨by decide, by decide⟩) (by decide +kernel) rfl rfl (Nat.le_of_ble_eq_true rfl) hroom_n_bits (fun r31 _s48 ok32 hq => ?_) (fun _ _ hx => hx.elim)
            obtain ⟨hs_, hk_⟩ := hq
            subst hs_
            have h := hk_
            refine z_sipush C d_d_read_169 (by decide) ?_
            have hj : ∀ s34 : Int, s34 = (if 2048 < r31 then 0 else 1) → Z E G 7 0 0 Q σ29 180 [(0, .ref (zA G 42)), (2, .int (iI p1)), (3, .int (iI v3_1)), (4, .int (iI s4)), (5, .ref (zA G r7)), (6, .int (iI v6_19))] [.int (iI s34)] := by
              intro s34 e35
              have h := h s34 e35
              have ok36 : okI s34 := by rw [e35]; split; exact (okI_lit rfl); exact (okI_lit rfl)
              refine z_callS C [.int (iI s34)] [] 1 d_d_read_180 (c_d_fits (zl E) G htl h ok36) k_250 k_248 k_249 k_1 (by decide)  (by decide +kernel) rfl rfl (Nat.le_of_ble_eq_true rfl) hroom_d_fits (fun _r _s47 ok37 hq => ?_) (fun kx σx hx => by subst hQ; exact zt_leave C hX ⟨by decide, by decide⟩ hx)
              obtain ⟨hs_, hk_⟩ := hq
              subst hs_
              have h := hk_
              refine z_iload C 3 d_d_read_183 rfl ?_
              refine z_iconst C d_d_read_185 ?_
              refine Jo0.walk (fun σ38 => Z E G 7 0 0 Q σ38 204 [(0, .ref (zA G 42)), (5, .ref (zA G r7))] []) h ?_ ?_
              · intro σ38 h
                refine z_aload_n C 0 d_d_read_204 rfl ?_
                refine z_aload C 1 d_d_read_205 rfl ?_
                refine z_callV C "LimbDesk" [.ref (zA G r7)] [] 1 d_d_read_207 (c_d_into (zl E) G htl h ok8) k_265 k_262 k_264 k_s3 k_1 (by decide) (recv_D C) (by decide +kernel) rfl rfl (Nat.le_of_ble_eq_true rfl) hroom_d_into (fun r40 σ41 ok42 hq => ?_) (fun kx σx hx => by subst hQ; exact zt_leave C hX ⟨by decide, by decide⟩ hx)
                have h := hq
                refine z_callV C "LimbDesk$Num" [] [] 0 d_d_read_210 (c_n_bits (zl E) G h ok42) k_155 k_152 k_153 k_154 k_2 (by decide) (recv_N C ok42) (by decide +kernel) rfl rfl (Nat.le_of_ble_eq_true rfl) hroom_n_bits (fun r43 _s45 ok44 hq => ?_) (fun _ _ hx => hx.elim)
                obtain ⟨hs_, hk_⟩ := hq
                subst hs_
                have h := hk_
                subst hQ
                exact z_ireturn C d_d_read_213.1 hr ⟨Nat.zero_le _, Nat.zero_le _⟩ ok44 h
              · intro J39 HJ39 h
                refine z_icmp_ne C d_d_read_186 ok5 (okI_lit rfl) (fun hb46 => ?_) (fun hb46 => ?_)
                · have h := h.1 hb46
                  refine z_sub [(0, .ref (zA G 42)), (5, .ref (zA G r7))] [0, 4] rfl ?_
                  exact HJ39 _ h
                · have h := h.2 hb46
                  refine z_aload_n C 0 d_d_read_189 rfl ?_
                  refine z_dget C 1 d_d_read_190 (by decide) k_44 rfl rfl ?_
                  refine z_aload_n C 0 d_d_read_193 rfl ?_
                  refine z_dget C 1 d_d_read_194 (by decide) k_44 rfl rfl ?_
                  refine z_nget_sign C d_d_read_197 k_34 ⟨by decide, by decide⟩ ?_
                  refine z_ineg C d_d_read_200 ?_
                  refine z_nput_sign C d_d_read_201 k_34 ⟨by decide, by decide⟩ ?_
                  refine z_sub [(0, .ref (zA G 42)), (5, .ref (zA G r7))] [0, 4] rfl ?_
                  exact HJ39 _ h
            clear h
            refine z_icmp_gt C d_d_read_172 ok32 (okI_lit rfl) (fun hb33 => ?_) (fun hb33 => ?_)
            · refine z_iconst C d_d_read_179 ?_
              exact hj _ (if_pos hb33).symm
            · refine z_iconst C d_d_read_175 ?_
              refine z_goto C d_d_read_176 ?_
              exact hj _ (if_neg (Int.not_lt.mpr hb33)).symm
          clear h
          refine z_icmp_gt C d_d_read_136 ok23 (okI_lit rfl) (fun hb24 => ?_) (fun hb24 => ?_)
          · refine z_iconst C d_d_read_143 ?_
            exact hj _ (if_pos hb24).symm
          · refine z_iconst C d_d_read_139 ?_
            refine z_goto C d_d_read_140 ?_
            exact hj _ (if_neg (Int.not_lt.mpr hb24)).symm
        · intro J22 HJ22 h
          refine z_icmp_ge C d_d_read_108 ok20 ok3 (fun hb50 => ?_) (fun hb50 => ?_)
          · have h := h.1 hb50
            refine z_sub [(0, .ref (zA G 42)), (2, .int (iI p1)), (3, .int (iI v3_1)), (4, .int (iI s4)), (5, .ref (zA G r7)), (6, .int (iI v6_19))] [0, 1, 2, 3, 4, 5] rfl ?_
            exact HJ22 h
          · have h := h.2 hb50
            refine z_aload_n C 0 d_d_read_111 rfl ?_
            refine z_dget C 6 d_d_read_112 (by decide) k_49 rfl rfl ?_
            refine z_iload C 5 d_d_read_115 rfl ?_
            obtain ⟨hc51, h⟩ := h
            refine z_bald C d_d_read_117 hc51 ?_
            refine z_bipush C d_d_read_118 (by decide) ?_
            obtain ⟨ok52, h⟩ := h
            refine z_icmp_ne C d_d_read_120 ok52 (okI_lit rfl) (fun hb53 => ?_) (fun hb53 => ?_)
            · have h := h.1 hb53
              refine z_sub [(0, .ref (zA G 42)), (2, .int (iI p1)), (3, .int (iI v3_1)), (4, .int (iI s4)), (5, .ref (zA G r7)), (6, .int (iI v6_19))] [0, 1, 2, 3, 4, 5] rfl ?_
              exact HJ22 h
            · have h := h.2 hb53
              refine z_iinc C 5 [(6, .int (iI (v6_19 + 1))), (0, .ref (zA G 42)), (2, .int (iI p1)), (3, .int (iI v3_1)), (4, .int (iI s4)), (5, .ref (zA G r7))] d_d_read_123 rfl (by decide) rfl ?_
              refine z_goto C d_d_read_126 ?_
              obtain ⟨ok54, h⟩ := h
              refine z_sub [(0, .ref (zA G 42)), (2, .int (iI p1)), (3, .int (iI v3_1)), (4, .int (iI s4)), (5, .ref (zA G r7)), (6, .int (iI (v6_19 + 1)))] [1, 2, 3, 4, 5, 0] rfl ?_
              exact Hagain21 _ h ok54
      · have h := h.2 hb18
        refine z_aload_n C 0 d_d_read_73 rfl ?_
        refine z_dget C 6 d_d_read_74 (by decide) k_49 rfl rfl ?_
        refine z_iload C 5 d_d_read_77 rfl ?_
        obtain ⟨hc55, h⟩ := h
        refine z_bald C d_d_read_79 hc55 ?_
        obtain ⟨ok56, h⟩ := h
        refine z_callS C [.int (iI ((mS σ 42 7 0) 44 v6_15))] [] 1 d_d_read_80 (c_n_digit (zl E) G h ok56) k_247 k_245 k_246 k_2 (by decide)  (by decide +kernel) rfl rfl (Nat.le_of_ble_eq_true rfl) hroom_n_digit (fun r57 _s66 ok58 hq => ?_) (fun _ _ hx => hx.elim)
        obtain ⟨hs_, hk_⟩ := hq
        subst hs_
        have h := hk_
        refine z_iload_n C 1 d_d_read_83 rfl ?_
        have hj : ∀ s60 : Int, s60 = (if p1 ≤ r57 then 0 else 1) → Z E G 7 0 0 Q (mS σ 42 7 0) 92 [(0, .ref (zA G 42)), (2, .int (iI p1)), (3, .int (iI v3_1)), (4, .int (iI s4)), (5, .ref (zA G r7)), (6, .int (iI v6_15))] [.int (iI s60)] := by
          intro s60 e61
          have h := h s60 e61
          have ok62 : okI s60 := by rw [e61]; split; exact (okI_lit rfl); exact (okI_lit rfl)
          refine z_callS C [.int (iI s60)] [] 1 d_d_read_92 (c_d_good (zl E) G htl h ok62) k_86 k_84 k_85 k_1 (by decide)  (by decide +kernel) rfl rfl (Nat.le_of_ble_eq_true rfl) hroom_d_good (fun _r _s65 ok63 hq => ?_) (fun kx σx hx => by subst hQ; exact zt_leave C hX ⟨by decide, by decide⟩ hx)
          obtain ⟨hs_, hk_⟩ := hq
          subst hs_
          have h := hk_
          refine z_iinc C 5 [(6, .int (iI (v6_15 + 1))), (0, .ref (zA G 42)), (2, .int (iI p1)), (3, .int (iI v3_1)), (4, .int (iI s4)), (5, .ref (zA G r7))] d_d_read_95 rfl (by decide) rfl ?_
          refine z_goto C d_d_read_98 ?_
          obtain ⟨ok64, h⟩ := h
          refine z_sub [(0, .ref (zA G 42)), (2, .int (iI p1)), (3, .int (iI v3_1)), (4, .int (iI s4)), (5, .ref (zA G r7)), (6, .int (iI (v6_15 + 1)))] [1, 2, 3, 4, 5, 0] rfl ?_
          exact Hagain17 _ h ok64
        clear h
        refine z_icmp_ge C d_d_read_84 ok58 h_p1 (fun hb59 => ?_) (fun hb59 => ?_)
        · refine z_iconst C d_d_read_91 ?_
          exact hj _ (if_pos hb59).symm
        · refine z_iconst C d_d_read_87 ?_
          refine z_goto C d_d_read_88 ?_
          exact hj _ (if_neg (Int.not_le.mpr hb59)).symm
    · intro J13 HJ13 h
      refine Jq0.walk (Z E G 7 0 0 Q (mS σ 42 7 0) 59 [(0, .ref (zA G 42)), (2, .int (iI p1)), (3, .int (iI v3_1)), (4, .int (iI s4)), (5, .ref (zA G r7))] []) h ?_ ?_
      · intro h
        refine z_iconst C d_d_read_59 ?_
        refine z_sub [(0, .ref (zA G 42)), (2, .int (iI p1)), (3, .int (iI v3_1)), (4, .int (iI s4)), (5, .ref (zA G r7))] [0, 1, 2, 3, 4] rfl ?_
        exact HJ13 _ h (okI_lit rfl)
      · intro J68 HJ68 h
        refine z_if_eq C d_d_read_46 (okI_b ok10) (fun hb69 => ?_) (fun hb69 => ?_)
        · have h := h.1 hb69
          refine z_sub [(0, .ref (zA G 42)), (2, .int (iI p1)), (3, .int (iI v3_1)), (4, .int (iI s4)), (5, .ref (zA G r7))] [2, 4, 5, 1, 0] rfl ?_
          exact HJ68 h
        · have h := h.2 hb69
          refine z_iload_n C 5 d_d_read_49 rfl ?_
          refine z_iload C 1 d_d_read_50 rfl ?_
          refine z_icmp_le C d_d_read_52 ok3 ok5 (fun hb70 => ?_) (fun hb70 => ?_)
          · have h := h.1 hb70
            refine z_sub [(0, .ref (zA G 42)), (2, .int (iI p1)), (3, .int (iI v3_1)), (4, .int (iI s4)), (5, .ref (zA G r7))] [2, 4, 5, 1, 0] rfl ?_
            exact HJ68 h
          · have h := h.2 hb70
            refine z_iconst C d_d_read_55 ?_
            refine z_goto C d_d_read_56 ?_
            refine z_sub [(0, .ref (zA G 42)), (2, .int (iI p1)), (3, .int (iI v3_1)), (4, .int (iI s4)), (5, .ref (zA G r7))] [2, 4, 5, 1, 0] rfl ?_
            exact HJ13 _ h (okI_lit rfl)
  · intro J6 HJ6 h
    refine Jq0.walk (Z E G 7 0 0 Q σ 24 [(0, .ref (zA G 42)), (1, .int (iI p0)), (2, .int (iI p1)), (3, .int (iI v3_1))] []) h ?_ ?_
    · intro h
      refine z_iconst C d_d_read_24 ?_
      refine z_sub [(0, .ref (zA G 42)), (1, .int (iI p0)), (2, .int (iI p1)), (3, .int (iI v3_1))] [0, 1, 2, 3] rfl ?_
      exact HJ6 _ h (okI_lit rfl)
    · intro J73 HJ73 h
      refine z_if_le C d_d_read_6 ok3 (fun hb74 => ?_) (fun hb74 => ?_)
      · have h := h.1 hb74
        refine z_sub [(0, .ref (zA G 42)), (1, .int (iI p0)), (2, .int (iI p1)), (3, .int (iI v3_1))] [1, 2, 3, 0] rfl ?_
        exact HJ73 h
      · have h := h.2 hb74
        refine z_aload_n C 1 d_d_read_9 rfl ?_
        refine z_dget C 6 d_d_read_10 (by decide) k_49 rfl rfl ?_
        refine z_iconst C d_d_read_13 ?_
        refine z_bald C d_d_read_14 ⟨by decide, by decide⟩ ?_
        refine z_bipush C d_d_read_15 (by decide) ?_
        obtain ⟨ok75, h⟩ := h
        refine z_icmp_ne C d_d_read_17 ok75 (okI_lit rfl) (fun hb76 => ?_) (fun hb76 => ?_)
        · have h := h.1 hb76
          refine z_sub [(0, .ref (zA G 42)), (1, .int (iI p0)), (2, .int (iI p1)), (3, .int (iI v3_1))] [1, 2, 3, 0] rfl ?_
          exact HJ73 h
        · have h := h.2 hb76
          refine z_iconst C d_d_read_20 ?_
          refine z_goto C d_d_read_21 ?_
          refine z_sub [(0, .ref (zA G 42)), (1, .int (iI p0)), (2, .int (iI p1)), (3, .int (iI v3_1))] [1, 2, 3, 0] rfl ?_
          exact HJ6 _ h (okI_lit rfl)
theorem d_d_show_0 : DD b_d_show 0 (.aload_n 0) 1 1 := ⟨by decide +kernel, rfl⟩
theorem d_d_show_1 : DD b_d_show 1 (.getfield 18) 3 4 := ⟨by decide +kernel, rfl⟩
theorem d_d_show_4 : DD b_d_show 4 (.aload_n 0) 1 5 := ⟨by decide +kernel, rfl⟩
theorem d_d_show_5 : DD b_d_show 5 (.iload_n 1) 1 6 := ⟨by decide +kernel, rfl⟩
theorem d_d_show_6 : DD b_d_show 6 (.invokevirtual 63) 3 9 := ⟨by decide +kernel, rfl⟩
theorem d_d_show_9 : DD b_d_show 9 (.invokevirtual 59) 3 12 := ⟨by decide +kernel, rfl⟩
theorem d_d_show_12 : DD b_d_show 12 (.iload_n 2) 1 13 := ⟨by decide +kernel, rfl⟩
theorem d_d_show_13 : DD b_d_show 13 (.iconst 2) 1 14 := ⟨by decide +kernel, rfl⟩
theorem d_d_show_14 : DD b_d_show 14 (.bipush 36) 2 16 := ⟨by decide +kernel, rfl⟩
theorem d_d_show_16 : DD b_d_show 16 (.invokestatic 44) 3 19 := ⟨by decide +kernel, rfl⟩
theorem d_d_show_19 : DD b_d_show 19 (.invokestatic 48) 3 22 := ⟨by decide +kernel, rfl⟩
theorem d_d_show_22 : DD b_d_show 22 (.aload_n 0) 1 23 := ⟨by decide +kernel, rfl⟩
theorem d_d_show_23 : DD b_d_show 23 (.aload_n 0) 1 24 := ⟨by decide +kernel, rfl⟩
theorem d_d_show_24 : DD b_d_show 24 (.getfield 18) 3 27 := ⟨by decide +kernel, rfl⟩
theorem d_d_show_27 : DD b_d_show 27 (.aload_n 0) 1 28 := ⟨by decide +kernel, rfl⟩
theorem d_d_show_28 : DD b_d_show 28 (.getfield 34) 3 31 := ⟨by decide +kernel, rfl⟩
theorem d_d_show_31 : DD b_d_show 31 (.iconst 0) 1 32 := ⟨by decide +kernel, rfl⟩
theorem d_d_show_32 : DD b_d_show 32 (.iload_n 2) 1 33 := ⟨by decide +kernel, rfl⟩
theorem d_d_show_33 : DD b_d_show 33 (.invokevirtual 95) 3 36 := ⟨by decide +kernel, rfl⟩
theorem d_d_show_36 : DD b_d_show 36 (.putfield 73) 3 39 := ⟨by decide +kernel, rfl⟩
theorem d_d_show_39 : DD b_d_show 39 (.iconst 0) 1 40 := ⟨by decide +kernel, rfl⟩
theorem d_d_show_40 : DD b_d_show 40 (.istore_n 3) 1 41 := ⟨by decide +kernel, rfl⟩
theorem d_d_show_41 : DD b_d_show 41 (.aload_n 0) 1 42 := ⟨by decide +kernel, rfl⟩
theorem d_d_show_42 : DD b_d_show 42 (.getfield 73) 3 45 := ⟨by decide +kernel, rfl⟩
theorem d_d_show_45 : DD b_d_show 45 (.iconst 1) 1 46 := ⟨by decide +kernel, rfl⟩
theorem d_d_show_46 : DD b_d_show 46 .isub 1 47 := ⟨by decide +kernel, rfl⟩
theorem d_d_show_47 : DD b_d_show 47 (.istore 4) 2 49 := ⟨by decide +kernel, rfl⟩
theorem d_d_show_49 : DD b_d_show 49 (.iload_n 3) 1 50 := ⟨by decide +kernel, rfl⟩
theorem d_d_show_50 : DD b_d_show 50 (.iload 4) 2 52 := ⟨by decide +kernel, rfl⟩
theorem d_d_show_52 : DB b_d_show 52 (.if_icmp .ge 42) 42 55 94 := ⟨by decide +kernel, rfl, rfl⟩
theorem d_d_show_55 : DD b_d_show 55 (.aload_n 0) 1 56 := ⟨by decide +kernel, rfl⟩
theorem d_d_show_56 : DD b_d_show 56 (.getfield 34) 3 59 := ⟨by decide +kernel, rfl⟩
theorem d_d_show_59 : DD b_d_show 59 (.iload_n 3) 1 60 := ⟨by decide +kernel, rfl⟩
theorem d_d_show_60 : DD b_d_show 60 .baload 1 61 := ⟨by decide +kernel, rfl⟩
theorem d_d_show_61 : DD b_d_show 61 (.istore 5) 2 63 := ⟨by decide +kernel, rfl⟩
theorem d_d_show_63 : DD b_d_show 63 (.aload_n 0) 1 64 := ⟨by decide +kernel, rfl⟩
theorem d_d_show_64 : DD b_d_show 64 (.getfield 34) 3 67 := ⟨by decide +kernel, rfl⟩
theorem d_d_show_67 : DD b_d_show 67 (.iload_n 3) 1 68 := ⟨by decide +kernel, rfl⟩
theorem d_d_show_68 : DD b_d_show 68 (.aload_n 0) 1 69 := ⟨by decide +kernel, rfl⟩
theorem d_d_show_69 : DD b_d_show 69 (.getfield 34) 3 72 := ⟨by decide +kernel, rfl⟩
theorem d_d_show_72 : DD b_d_show 72 (.iload 4) 2 74 := ⟨by decide +kernel, rfl⟩
theorem d_d_show_74 : DD b_d_show 74 .baload 1 75 := ⟨by decide +kernel, rfl⟩
theorem d_d_show_75 : DD b_d_show 75 .bastore 1 76 := ⟨by decide +kernel, rfl⟩
theorem d_d_show_76 : DD b_d_show 76 (.aload_n 0) 1 77 := ⟨by decide +kernel, rfl⟩
theorem d_d_show_77 : DD b_d_show 77 (.getfield 34) 3 80 := ⟨by decide +kernel, rfl⟩
theorem d_d_show_80 : DD b_d_show 80 (.iload 4) 2 82 := ⟨by decide +kernel, rfl⟩
theorem d_d_show_82 : DD b_d_show 82 (.iload 5) 2 84 := ⟨by decide +kernel, rfl⟩
theorem d_d_show_84 : DD b_d_show 84 .bastore 1 85 := ⟨by decide +kernel, rfl⟩
theorem d_d_show_85 : DD b_d_show 85 (.iinc 3 1) 3 88 := ⟨by decide +kernel, rfl⟩
theorem d_d_show_88 : DD b_d_show 88 (.iinc 4 (-1)) 3 91 := ⟨by decide +kernel, rfl⟩
theorem d_d_show_91 : DB b_d_show 91 (.goto (-42)) (-42) 94 49 := ⟨by decide +kernel, rfl, rfl⟩
theorem d_d_show_94 : DD b_d_show 94 (.aload_n 0) 1 95 := ⟨by decide +kernel, rfl⟩
theorem d_d_show_95 : DD b_d_show 95 (.getfield 73) 3 98 := ⟨by decide +kernel, rfl⟩
theorem d_d_show_98 : DD b_d_show 98 .ireturn 1 99 := ⟨by decide +kernel, rfl⟩
set_option maxRecDepth 20000 in
set_option maxHeartbeats 4000000 in
theorem c_d_show (l : Launch) (G : ZG) (htl : l.stackTraces = false) {p0 p1 : Int} {σ : Mem} {K : Int → Mem → Prop} {X : Int → Mem → Prop} (h : wp_d_show p0 p1 σ K X) (h_p0 : okI p0) (h_p1 : okI p1) : Ct l G y_d_show (.code y_d_show b_d_show 6 (some .int)) { frames := 8, cells := 1, slots := 6, locals := 141 } 0 0 1 [.ref (zA G 42), .int (iI p0), .int (iI p1)] σ K X := by
  unfold wp_d_show at h
  refine Ct.ofZ [(0, .ref (zA G 42)), (1, .int (iI p0)), (2, .int (iI p1))] "LimbDesk" (by decide) rfl (Nat.le_of_ble_eq_true rfl) rfl ?_
  intro E hR hlE C hr hX
  subst hlE
  have hroom_d_at : 7 + 1 ≤ (zR E).frames ∧ 8 + (2 + 11) + 120 ≤ (zR E).locals ∧ 0 + 1 ≤ (zR E).cells ∧ 0 + 6 ≤ (zR E).slots := by rw [hR]; decide
  have hroom_d_good : 6 + 1 ≤ (zR E).frames ∧ 8 + (1 + 11) + 100 ≤ (zR E).locals ∧ 0 + 1 ≤ (zR E).cells ∧ 0 + 6 ≤ (zR E).slots := by rw [hR]; decide
  have hroom_d_in : 0 + 1 ≤ (zR E).frames ∧ 8 + (3 + 11) + 0 ≤ (zR E).locals ∧ 0 + 0 ≤ (zR E).cells ∧ 0 + 0 ≤ (zR E).slots := by rw [hR]; decide
  have hroom_n_take : 0 + 1 ≤ (zR E).frames ∧ 8 + (3 + 11) + 0 ≤ (zR E).locals ∧ 0 + 0 ≤ (zR E).cells ∧ 0 + 0 ≤ (zR E).slots := by rw [hR]; decide
  have hroom_n_text : 1 + 1 ≤ (zR E).frames ∧ 8 + (13 + 11) + 22 ≤ (zR E).locals ∧ 0 + 0 ≤ (zR E).cells ∧ 0 + 0 ≤ (zR E).slots := by rw [hR]; decide
  clear hR
  obtain ⟨Q, hQ⟩ : ∃ Q, Q = MQX G (zb E) 1 K X (zs E) 0 0 1 6 := ⟨_, rfl⟩
  show Z E G 6 0 0 (MQX G (zb E) 1 K X (zs E) 0 0 1 6) σ 0 [(0, .ref (zA G 42)), (1, .int (iI p0)), (2, .int (iI p1))] []
  rw [← hQ]
  refine z_aload_n C 0 d_d_show_0 rfl ?_
  refine z_dget C 1 d_d_show_1 (by decide) k_44 rfl rfl ?_
  refine z_aload_n C 0 d_d_show_4 rfl ?_
  refine z_iload_n C 1 d_d_show_5 rfl ?_
  refine z_callV C "LimbDesk" [.int (iI p0)] [.ref (zA G 16)] 1 d_d_show_6 (c_d_at (zl E) G htl h h_p0) k_80 k_77 k_79 k_s0 k_1 (by decide) (recv_D C) (by decide +kernel) rfl rfl (Nat.le_of_ble_eq_true rfl) hroom_d_at (fun r1 _s32 ok2 hq => ?_) (fun kx σx hx => by subst hQ; exact zt_leave C hX ⟨by decide, by decide⟩ hx)
  obtain ⟨hs_, hk_⟩ := hq
  subst hs_
  have h := hk_
  refine z_callV C "LimbDesk$Num" [.ref (zA G r1)] [] 1 d_d_show_9 (c_n_take (zl E) G h ⟨by decide, by decide⟩ ok2) k_269 k_266 k_267 k_268 k_2 (by decide) (recv_N C ⟨by decide, by decide⟩) (by decide +kernel) rfl rfl (Nat.le_of_ble_eq_true rfl) hroom_n_take (fun _r σ3 ok4 hq => ?_) (fun _ _ hx => hx.elim)
  have h := hq
  refine z_iload_n C 2 d_d_show_12 rfl ?_
  refine z_iconst C d_d_show_13 ?_
  refine z_bipush C d_d_show_14 (by decide) ?_
  refine z_callS C [.int (iI p1), .int (iI 2), .int (iI 36)] [] 3 d_d_show_16 (c_d_in (zl E) G h h_p1 (okI_lit rfl) (okI_lit rfl)) k_83 k_81 k_82 k_1 (by decide)  (by decide +kernel) rfl rfl (Nat.le_of_ble_eq_true rfl) hroom_d_in (fun r5 _s31 ok6 hq => ?_) (fun _ _ hx => hx.elim)
  obtain ⟨hs_, hk_⟩ := hq
  subst hs_
  have h := hk_
  refine z_callS C [.int (iI r5)] [] 1 d_d_show_19 (c_d_good (zl E) G htl h (okI_b ok6)) k_86 k_84 k_85 k_1 (by decide)  (by decide +kernel) rfl rfl (Nat.le_of_ble_eq_true rfl) hroom_d_good (fun _r _s30 ok7 hq => ?_) (fun kx σx hx => by subst hQ; exact zt_leave C hX ⟨by decide, by decide⟩ hx)
  obtain ⟨hs_, hk_⟩ := hq
  subst hs_
  have h := hk_
  refine z_aload_n C 0 d_d_show_22 rfl ?_
  refine z_aload_n C 0 d_d_show_23 rfl ?_
  refine z_dget C 1 d_d_show_24 (by decide) k_44 rfl rfl ?_
  refine z_aload_n C 0 d_d_show_27 rfl ?_
  refine z_dget C 6 d_d_show_28 (by decide) k_49 rfl rfl ?_
  refine z_iconst C d_d_show_31 ?_
  refine z_iload_n C 2 d_d_show_32 rfl ?_
  refine z_callV C "LimbDesk$Num" [.ref (zA G 44), .int (iI 0), .int (iI p1)] [.ref (zA G 42)] 3 d_d_show_33 (c_n_text (zl E) G h ⟨by decide, by decide⟩ (okI_lit rfl) h_p1) k_280 k_277 k_278 k_279 k_2 (by decide) (recv_N C ⟨by decide, by decide⟩) (by decide +kernel) rfl rfl (Nat.le_of_ble_eq_true rfl) hroom_n_text (fun r8 σ9 ok10 hq => ?_) (fun _ _ hx => hx.elim)
  have h := hq
  refine z_dput_letters C d_d_show_36 k_50 ?_
  refine z_iconst C d_d_show_39 ?_
  refine z_istore_n C [(3, .int (iI 0)), (0, .ref (zA G 42)), (1, .int (iI p0)), (2, .int (iI p1))] d_d_show_40 (by decide) rfl ?_
  refine z_aload_n C 1 d_d_show_41 rfl ?_
  refine z_dget C 7 d_d_show_42 (by decide) k_50 rfl rfl ?_
  refine z_iconst C d_d_show_45 ?_
  refine z_isub C d_d_show_46 ?_
  refine z_namei (fun v4_11 e12 => ?_)
  have h := h v4_11 e12
  refine z_istore C [(4, .int (iI v4_11)), (3, .int (iI 0)), (0, .ref (zA G 42)), (1, .int (iI p0)), (2, .int (iI p1))] d_d_show_47 (by decide) rfl ?_
  obtain ⟨ok15, h⟩ := h
  refine z_sub [(0, .ref (zA G 42)), (3, .int (iI 0)), (4, .int (iI v4_11))] [2, 1, 0] rfl ?_
  refine (Lo2.walk (P := fun v3_13 v4_14 σ16 => okI v3_13 → okI v4_14 → Z E G 6 0 0 Q σ16 49 [(0, .ref (zA G 42)), (3, .int (iI v3_13)), (4, .int (iI v4_14))] []) ?_ h) (okI_lit rfl) ok15
  intro v3_13 v4_14 σ16 again19 Hagain19 h ok17 ok18
  refine z_iload_n C 1 d_d_show_49 rfl ?_
  refine z_iload C 2 d_d_show_50 rfl ?_
  refine z_icmp_ge C d_d_show_52 ok17 ok18 (fun hb20 => ?_) (fun hb20 => ?_)
  · have h := h.1 hb20
    refine z_aload_n C 0 d_d_show_94 rfl ?_
    refine z_dget C 7 d_d_show_95 (by decide) k_50 rfl rfl ?_
    obtain ⟨ok21, h⟩ := h
    subst hQ
    exact z_ireturn C d_d_show_98.1 hr ⟨Nat.zero_le _, Nat.zero_le _⟩ ok21 h
  · have h := h.2 hb20
    refine z_aload_n C 0 d_d_show_55 rfl ?_
    refine z_dget C 6 d_d_show_56 (by decide) k_49 rfl rfl ?_
    refine z_iload_n C 1 d_d_show_59 rfl ?_
    obtain ⟨hc22, h⟩ := h
    refine z_bald C d_d_show_60 hc22 ?_
    refine z_namei (fun v5_23 e24 => ?_)
    have h := h v5_23 e24
    refine z_istore C [(5, .int (iI v5_23)), (0, .ref (zA G 42)), (3, .int (iI v3_13)), (4, .int (iI v4_14))] d_d_show_61 (by decide) rfl ?_
    refine z_aload_n C 1 d_d_show_63 rfl ?_
    refine z_dget C 6 d_d_show_64 (by decide) k_49 rfl rfl ?_
    refine z_iload_n C 2 d_d_show_67 rfl ?_
    refine z_aload_n C 1 d_d_show_68 rfl ?_
    refine z_dget C 6 d_d_show_69 (by decide) k_49 rfl rfl ?_
    refine z_iload C 3 d_d_show_72 rfl ?_
    obtain ⟨hc25, h⟩ := h
    refine z_bald C d_d_show_74 hc25 ?_
    obtain ⟨hc26, h⟩ := h
    refine z_bast C d_d_show_75 hc22 hc26 ?_
    refine z_aload_n C 1 d_d_show_76 rfl ?_
    refine z_dget C 6 d_d_show_77 (by decide) k_49 rfl rfl ?_
    refine z_iload C 3 d_d_show_80 rfl ?_
    refine z_iload C 0 d_d_show_82 rfl ?_
    obtain ⟨hc27, h⟩ := h
    refine z_bast C d_d_show_84 hc25 hc27 ?_
    refine z_iinc C 2 [(3, .int (iI (v3_13 + 1))), (5, .int (iI v5_23)), (0, .ref (zA G 42)), (4, .int (iI v4_14))] d_d_show_85 rfl (by decide) rfl ?_
    refine z_iinc C 3 [(4, .int (iI (v4_14 + (-1)))), (3, .int (iI (v3_13 + 1))), (5, .int (iI v5_23)), (0, .ref (zA G 42))] d_d_show_88 rfl (by decide) rfl ?_
    refine z_goto C d_d_show_91 ?_
    obtain ⟨ok28, h⟩ := h
    obtain ⟨ok29, h⟩ := h
    refine z_sub [(0, .ref (zA G 42)), (3, .int (iI (v3_13 + 1))), (4, .int (iI (v4_14 + (-1))))] [3, 1, 0] rfl ?_
    exact Hagain19 _ _ _ h ok28 ok29
theorem d_d_letter_0 : DD b_d_letter 0 (.iload_n 1) 1 1 := ⟨by decide +kernel, rfl⟩
theorem d_d_letter_1 : DD b_d_letter 1 (.iconst 0) 1 2 := ⟨by decide +kernel, rfl⟩
theorem d_d_letter_2 : DD b_d_letter 2 (.aload_n 0) 1 3 := ⟨by decide +kernel, rfl⟩
theorem d_d_letter_3 : DD b_d_letter 3 (.getfield 73) 3 6 := ⟨by decide +kernel, rfl⟩
theorem d_d_letter_6 : DD b_d_letter 6 (.iconst 1) 1 7 := ⟨by decide +kernel, rfl⟩
theorem d_d_letter_7 : DD b_d_letter 7 .isub 1 8 := ⟨by decide +kernel, rfl⟩
theorem d_d_letter_8 : DD b_d_letter 8 (.invokestatic 44) 3 11 := ⟨by decide +kernel, rfl⟩
theorem d_d_letter_11 : DB b_d_letter 11 (.ifCond .ne 11) 11 14 22 := ⟨by decide +kernel, rfl, rfl⟩
theorem d_d_letter_14 : DD b_d_letter 14 (.new 77) 3 17 := ⟨by decide +kernel, rfl⟩
theorem d_d_letter_17 : DD b_d_letter 17 .dup 1 18 := ⟨by decide +kernel, rfl⟩
theorem d_d_letter_18 : DD b_d_letter 18 (.invokespecial 79) 3 21 := ⟨by decide +kernel, rfl⟩
theorem d_d_letter_21 : DD b_d_letter 21 .athrow 1 22 := ⟨by decide +kernel, rfl⟩
theorem d_d_letter_22 : DD b_d_letter 22 (.aload_n 0) 1 23 := ⟨by decide +kernel, rfl⟩
theorem d_d_letter_23 : DD b_d_letter 23 (.getfield 34) 3 26 := ⟨by decide +kernel, rfl⟩
theorem d_d_letter_26 : DD b_d_letter 26 (.iload_n 1) 1 27 := ⟨by decide +kernel, rfl⟩
theorem d_d_letter_27 : DD b_d_letter 27 .baload 1 28 := ⟨by decide +kernel, rfl⟩
theorem d_d_letter_28 : DD b_d_letter 28 .ireturn 1 29 := ⟨by decide +kernel, rfl⟩
set_option maxRecDepth 20000 in
set_option maxHeartbeats 4000000 in
theorem c_d_letter (l : Launch) (G : ZG) (htl : l.stackTraces = false) {p0 : Int} {σ : Mem} {K : Int → Mem → Prop} {X : Int → Mem → Prop} (h : wp_d_letter p0 σ K X) (h_p0 : okI p0) : Ct l G y_d_letter (.code y_d_letter b_d_letter 2 (some .int)) { frames := 6, cells := 1, slots := 6, locals := 100 } 0 0 1 [.ref (zA G 42), .int (iI p0)] σ K X := by
  unfold wp_d_letter at h
  refine Ct.ofZ [(0, .ref (zA G 42)), (1, .int (iI p0))] "LimbDesk" (by decide) rfl (Nat.le_of_ble_eq_true rfl) rfl ?_
  intro E hR hlE C hr hX
  subst hlE
  have hroom_d_in : 0 + 1 ≤ (zR E).frames ∧ 8 + (3 + 11) + 0 ≤ (zR E).locals ∧ 0 + 0 ≤ (zR E).cells ∧ 0 + 0 ≤ (zR E).slots := by rw [hR]; decide
  have hroomT : 6 ≤ (zR E).frames ∧ 100 ≤ (zR E).locals ∧ 0 + 1 ≤ (zR E).cells ∧ 0 + 6 ≤ (zR E).slots := by rw [hR]; decide
  clear hR
  obtain ⟨Q, hQ⟩ : ∃ Q, Q = MQX G (zb E) 1 K X (zs E) 0 0 1 6 := ⟨_, rfl⟩
  show Z E G 2 0 0 (MQX G (zb E) 1 K X (zs E) 0 0 1 6) σ 0 [(0, .ref (zA G 42)), (1, .int (iI p0))] []
  rw [← hQ]
  refine z_iload_n C 1 d_d_letter_0 rfl ?_
  refine z_iconst C d_d_letter_1 ?_
  refine z_aload_n C 0 d_d_letter_2 rfl ?_
  refine z_dget C 7 d_d_letter_3 (by decide) k_50 rfl rfl ?_
  refine z_iconst C d_d_letter_6 ?_
  refine z_isub C d_d_letter_7 ?_
  obtain ⟨ok1, h⟩ := h
  refine z_callS C [.int (iI p0), .int (iI 0), .int (iI ((σ 42 7) - 1))] [] 3 d_d_letter_8 (c_d_in (zl E) G h h_p0 (okI_lit rfl) ok1) k_83 k_81 k_82 k_1 (by decide)  (by decide +kernel) rfl rfl (Nat.le_of_ble_eq_true rfl) hroom_d_in (fun r2 _s7 ok3 hq => ?_) (fun _ _ hx => hx.elim)
  obtain ⟨hs_, hk_⟩ := hq
  subst hs_
  have h := hk_
  refine z_if_ne C d_d_letter_11 (okI_b ok3) (fun hb4 => ?_) (fun hb4 => ?_)
  · have h := h.1 hb4
    refine z_aload_n C 0 d_d_letter_22 rfl ?_
    refine z_dget C 6 d_d_letter_23 (by decide) k_49 rfl rfl ?_
    refine z_iload_n C 1 d_d_letter_26 rfl ?_
    obtain ⟨hc5, h⟩ := h
    refine z_bald C d_d_letter_27 hc5 ?_
    obtain ⟨ok6, h⟩ := h
    subst hQ
    exact z_ireturn C d_d_letter_28.1 hr ⟨Nat.zero_le _, Nat.zero_le _⟩ ok6 h
  · have h := h.2 hb4
    subst hQ
    exact z_throw C hX htl 3 (by decide) (by decide +kernel) d_d_letter_14 d_d_letter_17 d_d_letter_18.1 d_d_letter_21.1 k_209 k_210 k_9 zown_3 hroomT (Nat.le_of_ble_eq_true rfl) ⟨by decide, by decide⟩ h
theorem d_d_work_0 : DD b_d_work 0 (.aload_n 0) 1 1 := ⟨by decide +kernel, rfl⟩
theorem d_d_work_1 : DD b_d_work 1 (.iload_n 2) 1 2 := ⟨by decide +kernel, rfl⟩
theorem d_d_work_2 : DD b_d_work 2 (.invokevirtual 63) 3 5 := ⟨by decide +kernel, rfl⟩
theorem d_d_work_5 : DD b_d_work 5 (.astore 5) 2 7 := ⟨by decide +kernel, rfl⟩
theorem d_d_work_7 : DD b_d_work 7 (.aload_n 0) 1 8 := ⟨by decide +kernel, rfl⟩
theorem d_d_work_8 : DD b_d_work 8 (.iload_n 3) 1 9 := ⟨by decide +kernel, rfl⟩
theorem d_d_work_9 : DD b_d_work 9 (.invokevirtual 63) 3 12 := ⟨by decide +kernel, rfl⟩
theorem d_d_work_12 : DD b_d_work 12 (.astore 6) 2 14 := ⟨by decide +kernel, rfl⟩
theorem d_d_work_14 : DD b_d_work 14 (.aload_n 0) 1 15 := ⟨by decide +kernel, rfl⟩
theorem d_d_work_15 : DD b_d_work 15 (.iload 4) 2 17 := ⟨by decide +kernel, rfl⟩
theorem d_d_work_17 : DD b_d_work 17 (.invokevirtual 63) 3 20 := ⟨by decide +kernel, rfl⟩
theorem d_d_work_20 : DD b_d_work 20 (.astore 7) 2 22 := ⟨by decide +kernel, rfl⟩
theorem d_d_work_22 : DD b_d_work 22 (.iload_n 1) 1 23 := ⟨by decide +kernel, rfl⟩
theorem d_d_work_23 : DD b_d_work 23 (.iconst 0) 1 24 := ⟨by decide +kernel, rfl⟩
theorem d_d_work_24 : DD b_d_work 24 (.iconst 2) 1 25 := ⟨by decide +kernel, rfl⟩
theorem d_d_work_25 : DD b_d_work 25 (.invokestatic 44) 3 28 := ⟨by decide +kernel, rfl⟩
theorem d_d_work_28 : DD b_d_work 28 (.invokestatic 48) 3 31 := ⟨by decide +kernel, rfl⟩
theorem d_d_work_31 : DD b_d_work 31 (.iload_n 1) 1 32 := ⟨by decide +kernel, rfl⟩
theorem d_d_work_32 : DB b_d_work 32 (.ifCond .ne 17) 17 35 49 := ⟨by decide +kernel, rfl, rfl⟩
theorem d_d_work_35 : DD b_d_work 35 (.aload_n 0) 1 36 := ⟨by decide +kernel, rfl⟩
theorem d_d_work_36 : DD b_d_work 36 (.getfield 18) 3 39 := ⟨by decide +kernel, rfl⟩
theorem d_d_work_39 : DD b_d_work 39 (.aload 6) 2 41 := ⟨by decide +kernel, rfl⟩
theorem d_d_work_41 : DD b_d_work 41 (.aload 7) 2 43 := ⟨by decide +kernel, rfl⟩
theorem d_d_work_43 : DD b_d_work 43 (.invokevirtual 99) 3 46 := ⟨by decide +kernel, rfl⟩
theorem d_d_work_46 : DB b_d_work 46 (.goto 33) 33 49 79 := ⟨by decide +kernel, rfl, rfl⟩
theorem d_d_work_49 : DD b_d_work 49 (.iload_n 1) 1 50 := ⟨by decide +kernel, rfl⟩
theorem d_d_work_50 : DD b_d_work 50 (.iconst 1) 1 51 := ⟨by decide +kernel, rfl⟩
theorem d_d_work_51 : DB b_d_work 51 (.if_icmp .ne 17) 17 54 68 := ⟨by decide +kernel, rfl, rfl⟩
theorem d_d_work_54 : DD b_d_work 54 (.aload_n 0) 1 55 := ⟨by decide +kernel, rfl⟩
theorem d_d_work_55 : DD b_d_work 55 (.getfield 18) 3 58 := ⟨by decide +kernel, rfl⟩
theorem d_d_work_58 : DD b_d_work 58 (.aload 6) 2 60 := ⟨by decide +kernel, rfl⟩
theorem d_d_work_60 : DD b_d_work 60 (.aload 7) 2 62 := ⟨by decide +kernel, rfl⟩
theorem d_d_work_62 : DD b_d_work 62 (.invokevirtual 103) 3 65 := ⟨by decide +kernel, rfl⟩
theorem d_d_work_65 : DB b_d_work 65 (.goto 14) 14 68 79 := ⟨by decide +kernel, rfl, rfl⟩
theorem d_d_work_68 : DD b_d_work 68 (.aload_n 0) 1 69 := ⟨by decide +kernel, rfl⟩
theorem d_d_work_69 : DD b_d_work 69 (.getfield 18) 3 72 := ⟨by decide +kernel, rfl⟩
theorem d_d_work_72 : DD b_d_work 72 (.aload 6) 2 74 := ⟨by decide +kernel, rfl⟩
theorem d_d_work_74 : DD b_d_work 74 (.aload 7) 2 76 := ⟨by decide +kernel, rfl⟩
theorem d_d_work_76 : DD b_d_work 76 (.invokevirtual 106) 3 79 := ⟨by decide +kernel, rfl⟩
theorem d_d_work_79 : DD b_d_work 79 (.aload_n 0) 1 80 := ⟨by decide +kernel, rfl⟩
theorem d_d_work_80 : DD b_d_work 80 (.aload 5) 2 82 := ⟨by decide +kernel, rfl⟩
theorem d_d_work_82 : DD b_d_work 82 (.invokevirtual 91) 3 85 := ⟨by decide +kernel, rfl⟩
theorem d_d_work_85 : DD b_d_work 85 (.getfield 88) 3 88 := ⟨by decide +kernel, rfl⟩
theorem d_d_work_88 : DD b_d_work 88 .ireturn 1 89 := ⟨by decide +kernel, rfl⟩
set_option maxRecDepth 20000 in
set_option maxHeartbeats 4000000 in
theorem c_d_work (l : Launch) (G : ZG) (htl : l.stackTraces = false) {p0 p1 p2 p3 : Int} {σ : Mem} {K : Int → Mem → Prop} {X : Int → Mem → Prop} (h : wp_d_work p0 p1 p2 p3 σ K X) (h_p0 : okI p0) (h_p1 : okI p1) (h_p2 : okI p2) (h_p3 : okI p3) : Ct l G y_d_work (.code y_d_work b_d_work 8 (some .int)) { frames := 8, cells := 1, slots := 6, locals := 141 } 0 0 1 [.ref (zA G 42), .int (iI p0), .int (iI p1), .int (iI p2), .int (iI p3)] σ K X := by
  unfold wp_d_work at h
  refine Ct.ofZ [(0, .ref (zA G 42)), (1, .int (iI p0)), (2, .int (iI p1)), (3, .int (iI p2)), (4, .int (iI p3))] "LimbDesk" (by decide) rfl (Nat.le_of_ble_eq_true rfl) rfl ?_
  intro E hR hlE C hr hX
  subst hlE
  have hroom_d_at : 7 + 1 ≤ (zR E).frames ∧ 8 + (2 + 11) + 120 ≤ (zR E).locals ∧ 0 + 1 ≤ (zR E).cells ∧ 0 + 6 ≤ (zR E).slots := by rw [hR]; decide
  have hroom_d_good : 6 + 1 ≤ (zR E).frames ∧ 8 + (1 + 11) + 100 ≤ (zR E).locals ∧ 0 + 1 ≤ (zR E).cells ∧ 0 + 6 ≤ (zR E).slots := by rw [hR]; decide
  have hroom_d_in : 0 + 1 ≤ (zR E).frames ∧ 8 + (3 + 11) + 0 ≤ (zR E).locals ∧ 0 + 0 ≤ (zR E).cells ∧ 0 + 0 ≤ (zR E).slots := by rw [hR]; decide
  have hroom_d_into : 7 + 1 ≤ (zR E).frames ∧ 8 + (2 + 11) + 120 ≤ (zR E).locals ∧ 0 + 1 ≤ (zR E).cells ∧ 0 + 6 ≤ (zR E).slots := by rw [hR]; decide
  have hroom_n_difference : 2 + 1 ≤ (zR E).frames ∧ 8 + (3 + 11) + 57 ≤ (zR E).locals ∧ 0 + 0 ≤ (zR E).cells ∧ 0 + 0 ≤ (zR E).slots := by rw [hR]; decide
  have hroom_n_product : 1 + 1 ≤ (zR E).frames ∧ 8 + (12 + 11) + 22 ≤ (zR E).locals ∧ 0 + 0 ≤ (zR E).cells ∧ 0 + 0 ≤ (zR E).slots := by rw [hR]; decide
  have hroom_n_sum : 2 + 1 ≤ (zR E).frames ∧ 8 + (3 + 11) + 57 ≤ (zR E).locals ∧ 0 + 0 ≤ (zR E).cells ∧ 0 + 0 ≤ (zR E).slots := by rw [hR]; decide
  clear hR
  obtain ⟨Q, hQ⟩ : ∃ Q, Q = MQX G (zb E) 1 K X (zs E) 0 0 1 6 := ⟨_, rfl⟩
  show Z E G 8 0 0 (MQX G (zb E) 1 K X (zs E) 0 0 1 6) σ 0 [(0, .ref (zA G 42)), (1, .int (iI p0)), (2, .int (iI p1)), (3, .int (iI p2)), (4, .int (iI p3))] []
  rw [← hQ]
  refine z_aload_n C 0 d_d_work_0 rfl ?_
  refine z_iload_n C 2 d_d_work_1 rfl ?_
  refine z_callV C "LimbDesk" [.int (iI p1)] [] 1 d_d_work_2 (c_d_at (zl E) G htl h h_p1) k_80 k_77 k_79 k_s0 k_1 (by decide) (recv_D C) (by decide +kernel) rfl rfl (Nat.le_of_ble_eq_true rfl) hroom_d_at (fun r1 _s28 ok2 hq => ?_) (fun kx σx hx => by subst hQ; exact zt_leave C hX ⟨by decide, by decide⟩ hx)
  obtain ⟨hs_, hk_⟩ := hq
  subst hs_
  have h := hk_
  refine z_astore C [(5, .ref (zA G r1)), (0, .ref (zA G 42)), (1, .int (iI p0)), (2, .int (iI p1)), (3, .int (iI p2)), (4, .int (iI p3))] d_d_work_5 (by decide) rfl ?_
  refine z_aload_n C 1 d_d_work_7 rfl ?_
  refine z_iload_n C 4 d_d_work_8 rfl ?_
  refine z_callV C "LimbDesk" [.int (iI p2)] [] 1 d_d_work_9 (c_d_at (zl E) G htl h h_p2) k_80 k_77 k_79 k_s0 k_1 (by decide) (recv_D C) (by decide +kernel) rfl rfl (Nat.le_of_ble_eq_true rfl) hroom_d_at (fun r3 _s27 ok4 hq => ?_) (fun kx σx hx => by subst hQ; exact zt_leave C hX ⟨by decide, by decide⟩ hx)
  obtain ⟨hs_, hk_⟩ := hq
  subst hs_
  have h := hk_
  refine z_astore C [(6, .ref (zA G r3)), (5, .ref (zA G r1)), (0, .ref (zA G 42)), (1, .int (iI p0)), (2, .int (iI p1)), (3, .int (iI p2)), (4, .int (iI p3))] d_d_work_12 (by decide) rfl ?_
  refine z_aload_n C 2 d_d_work_14 rfl ?_
  refine z_iload C 6 d_d_work_15 rfl ?_
  refine z_callV C "LimbDesk" [.int (iI p3)] [] 1 d_d_work_17 (c_d_at (zl E) G htl h h_p3) k_80 k_77 k_79 k_s0 k_1 (by decide) (recv_D C) (by decide +kernel) rfl rfl (Nat.le_of_ble_eq_true rfl) hroom_d_at (fun r5 _s26 ok6 hq => ?_) (fun kx σx hx => by subst hQ; exact zt_leave C hX ⟨by decide, by decide⟩ hx)
  obtain ⟨hs_, hk_⟩ := hq
  subst hs_
  have h := hk_
  refine z_astore C [(7, .ref (zA G r5)), (6, .ref (zA G r3)), (5, .ref (zA G r1)), (0, .ref (zA G 42)), (1, .int (iI p0)), (2, .int (iI p1)), (3, .int (iI p2)), (4, .int (iI p3))] d_d_work_20 (by decide) rfl ?_
  refine z_iload_n C 4 d_d_work_22 rfl ?_
  refine z_iconst C d_d_work_23 ?_
  refine z_iconst C d_d_work_24 ?_
  refine z_callS C [.int (iI p0), .int (iI 0), .int (iI 2)] [] 3 d_d_work_25 (c_d_in (zl E) G h h_p0 (okI_lit rfl) (okI_lit rfl)) k_83 k_81 k_82 k_1 (by decide)  (by decide +kernel) rfl rfl (Nat.le_of_ble_eq_true rfl) hroom_d_in (fun r7 _s25 ok8 hq => ?_) (fun _ _ hx => hx.elim)
  obtain ⟨hs_, hk_⟩ := hq
  subst hs_
  have h := hk_
  refine z_callS C [.int (iI r7)] [] 1 d_d_work_28 (c_d_good (zl E) G htl h (okI_b ok8)) k_86 k_84 k_85 k_1 (by decide)  (by decide +kernel) rfl rfl (Nat.le_of_ble_eq_true rfl) hroom_d_good (fun _r _s24 ok9 hq => ?_) (fun kx σx hx => by subst hQ; exact zt_leave C hX ⟨by decide, by decide⟩ hx)
  obtain ⟨hs_, hk_⟩ := hq
  subst hs_
  have h := hk_
  refine z_iload_n C 4 d_d_work_31 rfl ?_
  refine Jo0.walk (fun σ10 => Z E G 8 0 0 Q σ10 79 [(0, .ref (zA G 42)), (5, .ref (zA G r1))] []) h ?_ ?_
  · intro σ10 h
    refine z_aload_n C 0 d_d_work_79 rfl ?_
    refine z_aload C 1 d_d_work_80 rfl ?_
    refine z_callV C "LimbDesk" [.ref (zA G r1)] [] 1 d_d_work_82 (c_d_into (zl E) G htl h ok2) k_265 k_262 k_264 k_s3 k_1 (by decide) (recv_D C) (by decide +kernel) rfl rfl (Nat.le_of_ble_eq_true rfl) hroom_d_into (fun r12 σ13 ok14 hq => ?_) (fun kx σx hx => by subst hQ; exact zt_leave C hX ⟨by decide, by decide⟩ hx)
    have h := hq
    refine z_nget_sign C d_d_work_85 k_34 ok14 ?_
    obtain ⟨ok15, h⟩ := h
    subst hQ
    exact z_ireturn C d_d_work_88.1 hr ⟨Nat.zero_le _, Nat.zero_le _⟩ ok15 h
  · intro J11 HJ11 h
    refine z_if_ne C d_d_work_32 h_p0 (fun hb16 => ?_) (fun hb16 => ?_)
    · have h := h.1 hb16
      refine z_iload_n C 4 d_d_work_49 rfl ?_
      refine z_iconst C d_d_work_50 ?_
      refine z_icmp_ne C d_d_work_51 h_p0 (okI_lit rfl) (fun hb17 => ?_) (fun hb17 => ?_)
      · have h := h.1 hb17
        refine z_aload_n C 3 d_d_work_68 rfl ?_
        refine z_dget C 1 d_d_work_69 (by decide) k_44 rfl rfl ?_
        refine z_aload C 1 d_d_work_72 rfl ?_
        refine z_aload C 0 d_d_work_74 rfl ?_
        refine z_callV C "LimbDesk$Num" [.ref (zA G r3), .ref (zA G r5)] [] 2 d_d_work_76 (c_n_product (zl E) G h ⟨by decide, by decide⟩ ok4 ok6) k_316 k_313 k_314 k_315 k_2 (by decide) (recv_N C ⟨by decide, by decide⟩) (by decide +kernel) rfl rfl (Nat.le_of_ble_eq_true rfl) hroom_n_product (fun _r σ18 ok19 hq => ?_) (fun _ _ hx => hx.elim)
        have h := hq
        refine z_sub [(0, .ref (zA G 42)), (5, .ref (zA G r1))] [3, 2] rfl ?_
        exact HJ11 _ h
      · have h := h.2 hb17
        refine z_aload_n C 3 d_d_work_54 rfl ?_
        refine z_dget C 1 d_d_work_55 (by decide) k_44 rfl rfl ?_
        refine z_aload C 1 d_d_work_58 rfl ?_
        refine z_aload C 0 d_d_work_60 rfl ?_
        refine z_callV C "LimbDesk$Num" [.ref (zA G r3), .ref (zA G r5)] [] 2 d_d_work_62 (c_n_difference (zl E) G h ⟨by decide, by decide⟩ ok4 ok6) k_312 k_309 k_310 k_311 k_2 (by decide) (recv_N C ⟨by decide, by decide⟩) (by decide +kernel) rfl rfl (Nat.le_of_ble_eq_true rfl) hroom_n_difference (fun _r σ20 ok21 hq => ?_) (fun _ _ hx => hx.elim)
        have h := hq
        refine z_goto C d_d_work_65 ?_
        refine z_sub [(0, .ref (zA G 42)), (5, .ref (zA G r1))] [3, 2] rfl ?_
        exact HJ11 _ h
    · have h := h.2 hb16
      refine z_aload_n C 3 d_d_work_35 rfl ?_
      refine z_dget C 1 d_d_work_36 (by decide) k_44 rfl rfl ?_
      refine z_aload C 1 d_d_work_39 rfl ?_
      refine z_aload C 0 d_d_work_41 rfl ?_
      refine z_callV C "LimbDesk$Num" [.ref (zA G r3), .ref (zA G r5)] [] 2 d_d_work_43 (c_n_sum (zl E) G h ⟨by decide, by decide⟩ ok4 ok6) k_298 k_295 k_296 k_297 k_2 (by decide) (recv_N C ⟨by decide, by decide⟩) (by decide +kernel) rfl rfl (Nat.le_of_ble_eq_true rfl) hroom_n_sum (fun _r σ22 ok23 hq => ?_) (fun _ _ hx => hx.elim)
      have h := hq
      refine z_goto C d_d_work_46 ?_
      refine z_sub [(0, .ref (zA G 42)), (5, .ref (zA G r1))] [3, 2] rfl ?_
      exact HJ11 _ h
theorem d_d_divide_0 : DD b_d_divide 0 (.aload_n 0) 1 1 := ⟨by decide +kernel, rfl⟩
theorem d_d_divide_1 : DD b_d_divide 1 (.iload_n 2) 1 2 := ⟨by decide +kernel, rfl⟩
theorem d_d_divide_2 : DD b_d_divide 2 (.invokevirtual 63) 3 5 := ⟨by decide +kernel, rfl⟩
theorem d_d_divide_5 : DD b_d_divide 5 (.astore 6) 2 7 := ⟨by decide +kernel, rfl⟩
theorem d_d_divide_7 : DD b_d_divide 7 (.aload_n 0) 1 8 := ⟨by decide +kernel, rfl⟩
theorem d_d_divide_8 : DD b_d_divide 8 (.iload_n 3) 1 9 := ⟨by decide +kernel, rfl⟩
theorem d_d_divide_9 : DD b_d_divide 9 (.invokevirtual 63) 3 12 := ⟨by decide +kernel, rfl⟩
theorem d_d_divide_12 : DD b_d_divide 12 (.astore 7) 2 14 := ⟨by decide +kernel, rfl⟩
theorem d_d_divide_14 : DD b_d_divide 14 (.aload_n 0) 1 15 := ⟨by decide +kernel, rfl⟩
theorem d_d_divide_15 : DD b_d_divide 15 (.iload 4) 2 17 := ⟨by decide +kernel, rfl⟩
theorem d_d_divide_17 : DD b_d_divide 17 (.invokevirtual 63) 3 20 := ⟨by decide +kernel, rfl⟩
theorem d_d_divide_20 : DD b_d_divide 20 (.astore 8) 2 22 := ⟨by decide +kernel, rfl⟩
theorem d_d_divide_22 : DD b_d_divide 22 (.aload_n 0) 1 23 := ⟨by decide +kernel, rfl⟩
theorem d_d_divide_23 : DD b_d_divide 23 (.iload 5) 2 25 := ⟨by decide +kernel, rfl⟩
theorem d_d_divide_25 : DD b_d_divide 25 (.invokevirtual 63) 3 28 := ⟨by decide +kernel, rfl⟩
theorem d_d_divide_28 : DD b_d_divide 28 (.astore 9) 2 30 := ⟨by decide +kernel, rfl⟩
theorem d_d_divide_30 : DD b_d_divide 30 (.iload_n 2) 1 31 := ⟨by decide +kernel, rfl⟩
theorem d_d_divide_31 : DD b_d_divide 31 (.iload_n 3) 1 32 := ⟨by decide +kernel, rfl⟩
theorem d_d_divide_32 : DB b_d_divide 32 (.if_icmp .eq 7) 7 35 39 := ⟨by decide +kernel, rfl, rfl⟩
theorem d_d_divide_35 : DD b_d_divide 35 (.iconst 1) 1 36 := ⟨by decide +kernel, rfl⟩
theorem d_d_divide_36 : DB b_d_divide 36 (.goto 4) 4 39 40 := ⟨by decide +kernel, rfl, rfl⟩
theorem d_d_divide_39 : DD b_d_divide 39 (.iconst 0) 1 40 := ⟨by decide +kernel, rfl⟩
theorem d_d_divide_40 : DD b_d_divide 40 (.invokestatic 48) 3 43 := ⟨by decide +kernel, rfl⟩
theorem d_d_divide_43 : DD b_d_divide 43 (.aload 9) 2 45 := ⟨by decide +kernel, rfl⟩
theorem d_d_divide_45 : DD b_d_divide 45 (.getfield 88) 3 48 := ⟨by decide +kernel, rfl⟩
theorem d_d_divide_48 : DB b_d_divide 48 (.ifCond .eq 7) 7 51 55 := ⟨by decide +kernel, rfl, rfl⟩
theorem d_d_divide_51 : DD b_d_divide 51 (.iconst 1) 1 52 := ⟨by decide +kernel, rfl⟩
theorem d_d_divide_52 : DB b_d_divide 52 (.goto 4) 4 55 56 := ⟨by decide +kernel, rfl, rfl⟩
theorem d_d_divide_55 : DD b_d_divide 55 (.iconst 0) 1 56 := ⟨by decide +kernel, rfl⟩
theorem d_d_divide_56 : DD b_d_divide 56 (.invokestatic 56) 3 59 := ⟨by decide +kernel, rfl⟩
theorem d_d_divide_59 : DD b_d_divide 59 (.iload_n 1) 1 60 := ⟨by decide +kernel, rfl⟩
theorem d_d_divide_60 : DB b_d_divide 60 (.ifCond .eq 25) 25 63 85 := ⟨by decide +kernel, rfl, rfl⟩
theorem d_d_divide_63 : DD b_d_divide 63 (.aload_n 0) 1 64 := ⟨by decide +kernel, rfl⟩
theorem d_d_divide_64 : DD b_d_divide 64 (.getfield 18) 3 67 := ⟨by decide +kernel, rfl⟩
theorem d_d_divide_67 : DD b_d_divide 67 (.aload 8) 2 69 := ⟨by decide +kernel, rfl⟩
theorem d_d_divide_69 : DD b_d_divide 69 (.aload 9) 2 71 := ⟨by decide +kernel, rfl⟩
theorem d_d_divide_71 : DD b_d_divide 71 (.aload_n 0) 1 72 := ⟨by decide +kernel, rfl⟩
theorem d_d_divide_72 : DD b_d_divide 72 (.getfield 22) 3 75 := ⟨by decide +kernel, rfl⟩
theorem d_d_divide_75 : DD b_d_divide 75 (.aload_n 0) 1 76 := ⟨by decide +kernel, rfl⟩
theorem d_d_divide_76 : DD b_d_divide 76 (.getfield 25) 3 79 := ⟨by decide +kernel, rfl⟩
theorem d_d_divide_79 : DD b_d_divide 79 (.invokevirtual 109) 3 82 := ⟨by decide +kernel, rfl⟩
theorem d_d_divide_82 : DB b_d_divide 82 (.goto 22) 22 85 104 := ⟨by decide +kernel, rfl, rfl⟩
theorem d_d_divide_85 : DD b_d_divide 85 (.aload_n 0) 1 86 := ⟨by decide +kernel, rfl⟩
theorem d_d_divide_86 : DD b_d_divide 86 (.getfield 18) 3 89 := ⟨by decide +kernel, rfl⟩
theorem d_d_divide_89 : DD b_d_divide 89 (.aload 8) 2 91 := ⟨by decide +kernel, rfl⟩
theorem d_d_divide_91 : DD b_d_divide 91 (.aload 9) 2 93 := ⟨by decide +kernel, rfl⟩
theorem d_d_divide_93 : DD b_d_divide 93 (.aload_n 0) 1 94 := ⟨by decide +kernel, rfl⟩
theorem d_d_divide_94 : DD b_d_divide 94 (.getfield 22) 3 97 := ⟨by decide +kernel, rfl⟩
theorem d_d_divide_97 : DD b_d_divide 97 (.aload_n 0) 1 98 := ⟨by decide +kernel, rfl⟩
theorem d_d_divide_98 : DD b_d_divide 98 (.getfield 25) 3 101 := ⟨by decide +kernel, rfl⟩
theorem d_d_divide_101 : DD b_d_divide 101 (.invokevirtual 113) 3 104 := ⟨by decide +kernel, rfl⟩
theorem d_d_divide_104 : DD b_d_divide 104 (.aload_n 0) 1 105 := ⟨by decide +kernel, rfl⟩
theorem d_d_divide_105 : DD b_d_divide 105 (.aload 6) 2 107 := ⟨by decide +kernel, rfl⟩
theorem d_d_divide_107 : DD b_d_divide 107 (.invokevirtual 91) 3 110 := ⟨by decide +kernel, rfl⟩
theorem d_d_divide_110 : DD b_d_divide 110 .pop 1 111 := ⟨by decide +kernel, rfl⟩
theorem d_d_divide_111 : DD b_d_divide 111 (.aload 7) 2 113 := ⟨by decide +kernel, rfl⟩
theorem d_d_divide_113 : DD b_d_divide 113 (.aload_n 0) 1 114 := ⟨by decide +kernel, rfl⟩
theorem d_d_divide_114 : DD b_d_divide 114 (.getfield 22) 3 117 := ⟨by decide +kernel, rfl⟩
theorem d_d_divide_117 : DD b_d_divide 117 (.invokevirtual 59) 3 120 := ⟨by decide +kernel, rfl⟩
theorem d_d_divide_120 : DD b_d_divide 120 (.aload 7) 2 122 := ⟨by decide +kernel, rfl⟩
theorem d_d_divide_122 : DD b_d_divide 122 (.getfield 88) 3 125 := ⟨by decide +kernel, rfl⟩
theorem d_d_divide_125 : DD b_d_divide 125 .ireturn 1 126 := ⟨by decide +kernel, rfl⟩
set_option maxRecDepth 20000 in
set_option maxHeartbeats 4000000 in
theorem c_d_divide (l : Launch) (G : ZG) (htl : l.stackTraces = false) {p0 p1 p2 p3 p4 : Int} {σ : Mem} {K : Int → Mem → Prop} {X : Int → Mem → Prop} (h : wp_d_divide p0 p1 p2 p3 p4 σ K X) (h_p0 : okI p0) (h_p1 : okI p1) (h_p2 : okI p2) (h_p3 : okI p3) (h_p4 : okI p4) : Ct l G y_d_divide (.code y_d_divide b_d_divide 10 (some .int)) { frames := 8, cells := 1, slots := 6, locals := 141 } 0 0 1 [.ref (zA G 42), .int (iI p0), .int (iI p1), .int (iI p2), .int (iI p3), .int (iI p4)] σ K X := by
  unfold wp_d_divide at h
  refine Ct.ofZ [(0, .ref (zA G 42)), (1, .int (iI p0)), (2, .int (iI p1)), (3, .int (iI p2)), (4, .int (iI p3)), (5, .int (iI p4))] "LimbDesk" (by decide) rfl (Nat.le_of_ble_eq_true rfl) rfl ?_
  intro E hR hlE C hr hX
  subst hlE
  have hroom_d_at : 7 + 1 ≤ (zR E).frames ∧ 8 + (2 + 11) + 120 ≤ (zR E).locals ∧ 0 + 1 ≤ (zR E).cells ∧ 0 + 6 ≤ (zR E).slots := by rw [hR]; decide
  have hroom_d_fits : 6 + 1 ≤ (zR E).frames ∧ 8 + (1 + 11) + 100 ≤ (zR E).locals ∧ 0 + 1 ≤ (zR E).cells ∧ 0 + 6 ≤ (zR E).slots := by rw [hR]; decide
  have hroom_d_good : 6 + 1 ≤ (zR E).frames ∧ 8 + (1 + 11) + 100 ≤ (zR E).locals ∧ 0 + 1 ≤ (zR E).cells ∧ 0 + 6 ≤ (zR E).slots := by rw [hR]; decide
  have hroom_d_into : 7 + 1 ≤ (zR E).frames ∧ 8 + (2 + 11) + 120 ≤ (zR E).locals ∧ 0 + 1 ≤ (zR E).cells ∧ 0 + 6 ≤ (zR E).slots := by rw [hR]; decide
  have hroom_n_floor : 3 + 1 ≤ (zR E).frames ∧ 8 + (5 + 11) + 83 ≤ (zR E).locals ∧ 0 + 0 ≤ (zR E).cells ∧ 0 + 0 ≤ (zR E).slots := by rw [hR]; decide
  have hroom_n_quotient : 2 + 1 ≤ (zR E).frames ∧ 8 + (14 + 11) + 50 ≤ (zR E).locals ∧ 0 + 0 ≤ (zR E).cells ∧ 0 + 0 ≤ (zR E).slots := by rw [hR]; decide
  have hroom_n_take : 0 + 1 ≤ (zR E).frames ∧ 8 + (3 + 11) + 0 ≤ (zR E).locals ∧ 0 + 0 ≤ (zR E).cells ∧ 0 + 0 ≤ (zR E).slots := by rw [hR]; decide
  clear hR
  obtain ⟨Q, hQ⟩ : ∃ Q, Q = MQX G (zb E) 1 K X (zs E) 0 0 1 6 := ⟨_, rfl⟩
  show Z E G 10 0 0 (MQX G (zb E) 1 K X (zs E) 0 0 1 6) σ 0 [(0, .ref (zA G 42)), (1, .int (iI p0)), (2, .int (iI p1)), (3, .int (iI p2)), (4, .int (iI p3)), (5, .int (iI p4))] []
  rw [← hQ]
  refine z_aload_n C 0 d_d_divide_0 rfl ?_
  refine z_iload_n C 2 d_d_divide_1 rfl ?_
  refine z_callV C "LimbDesk" [.int (iI p1)] [] 1 d_d_divide_2 (c_d_at (zl E) G htl h h_p1) k_80 k_77 k_79 k_s0 k_1 (by decide) (recv_D C) (by decide +kernel) rfl rfl (Nat.le_of_ble_eq_true rfl) hroom_d_at (fun r1 _s38 ok2 hq => ?_) (fun kx σx hx => by subst hQ; exact zt_leave C hX ⟨by decide, by decide⟩ hx)
  obtain ⟨hs_, hk_⟩ := hq
  subst hs_
  have h := hk_
  refine z_astore C [(6, .ref (zA G r1)), (0, .ref (zA G 42)), (1, .int (iI p0)), (2, .int (iI p1)), (3, .int (iI p2)), (4, .int (iI p3)), (5, .int (iI p4))] d_d_divide_5 (by decide) rfl ?_
  refine z_aload_n C 1 d_d_divide_7 rfl ?_
  refine z_iload_n C 4 d_d_divide_8 rfl ?_
  refine z_callV C "LimbDesk" [.int (iI p2)] [] 1 d_d_divide_9 (c_d_at (zl E) G htl h h_p2) k_80 k_77 k_79 k_s0 k_1 (by decide) (recv_D C) (by decide +kernel) rfl rfl (Nat.le_of_ble_eq_true rfl) hroom_d_at (fun r3 _s37 ok4 hq => ?_) (fun kx σx hx => by subst hQ; exact zt_leave C hX ⟨by decide, by decide⟩ hx)
  obtain ⟨hs_, hk_⟩ := hq
  subst hs_
  have h := hk_
  refine z_astore C [(7, .ref (zA G r3)), (6, .ref (zA G r1)), (0, .ref (zA G 42)), (1, .int (iI p0)), (2, .int (iI p1)), (3, .int (iI p2)), (4, .int (iI p3)), (5, .int (iI p4))] d_d_divide_12 (by decide) rfl ?_
  refine z_aload_n C 2 d_d_divide_14 rfl ?_
  refine z_iload C 6 d_d_divide_15 rfl ?_
  refine z_callV C "LimbDesk" [.int (iI p3)] [] 1 d_d_divide_17 (c_d_at (zl E) G htl h h_p3) k_80 k_77 k_79 k_s0 k_1 (by decide) (recv_D C) (by decide +kernel) rfl rfl (Nat.le_of_ble_eq_true rfl) hroom_d_at (fun r5 _s36 ok6 hq => ?_) (fun kx σx hx => by subst hQ; exact zt_leave C hX ⟨by decide, by decide⟩ hx)
  obtain ⟨hs_, hk_⟩ := hq
  subst hs_
  have h := hk_
  refine z_astore C [(8, .ref (zA G r5)), (7, .ref (zA G r3)), (6, .ref (zA G r1)), (0, .ref (zA G 42)), (1, .int (iI p0)), (2, .int (iI p1)), (3, .int (iI p2)), (4, .int (iI p3)), (5, .int (iI p4))] d_d_divide_20 (by decide) rfl ?_
  refine z_aload_n C 3 d_d_divide_22 rfl ?_
  refine z_iload C 8 d_d_divide_23 rfl ?_
  refine z_callV C "LimbDesk" [.int (iI p4)] [] 1 d_d_divide_25 (c_d_at (zl E) G htl h h_p4) k_80 k_77 k_79 k_s0 k_1 (by decide) (recv_D C) (by decide +kernel) rfl rfl (Nat.le_of_ble_eq_true rfl) hroom_d_at (fun r7 _s35 ok8 hq => ?_) (fun kx σx hx => by subst hQ; exact zt_leave C hX ⟨by decide, by decide⟩ hx)
  obtain ⟨hs_, hk_⟩ := hq
  subst hs_
  have h := hk_
  refine z_astore C [(9, .ref (zA G r7)), (8, .ref (zA G r5)), (7, .ref (zA G r3)), (6, .ref (zA G r1)), (0, .ref (zA G 42)), (1, .int (iI p0)), (2, .int (iI p1)), (3, .int (iI p2)), (4, .int (iI p3)), (5, .int (iI p4))] d_d_divide_28 (by decide) rfl ?_
  refine z_iload_n C 6 d_d_divide_30 rfl ?_
  refine z_iload_n C 7 d_d_divide_31 rfl ?_
  have hj : ∀ s10 : Int, s10 = (if p1 = p2 then 0 else 1) → Z E G 10 0 0 Q σ 40 [(9, .ref (zA G r7)), (8, .ref (zA G r5)), (7, .ref (zA G r3)), (6, .ref (zA G r1)), (0, .ref (zA G 42)), (1, .int (iI p0)), (2, .int (iI p1)), (3, .int (iI p2)), (4, .int (iI p3)), (5, .int (iI p4))] [.int (iI s10)] := by
    intro s10 e11
    have h := h s10 e11
    have ok12 : okI s10 := by rw [e11]; split; exact (okI_lit rfl); exact (okI_lit rfl)
    refine z_callS C [.int (iI s10)] [] 1 d_d_divide_40 (c_d_good (zl E) G htl h ok12) k_86 k_84 k_85 k_1 (by decide)  (by decide +kernel) rfl rfl (Nat.le_of_ble_eq_true rfl) hroom_d_good (fun _r _s34 ok13 hq => ?_) (fun kx σx hx => by subst hQ; exact zt_leave C hX ⟨by decide, by decide⟩ hx)
    obtain ⟨hs_, hk_⟩ := hq
    subst hs_
    have h := hk_
    refine z_aload C 0 d_d_divide_43 rfl ?_
    refine z_nget_sign C d_d_divide_45 k_34 ok8 ?_
    obtain ⟨ok14, h⟩ := h
    have hj : ∀ s16 : Int, s16 = (if (σ r7 2) = 0 then 0 else 1) → Z E G 10 0 0 Q σ 56 [(9, .ref (zA G r7)), (8, .ref (zA G r5)), (7, .ref (zA G r3)), (6, .ref (zA G r1)), (0, .ref (zA G 42)), (1, .int (iI p0)), (2, .int (iI p1)), (3, .int (iI p2)), (4, .int (iI p3)), (5, .int (iI p4))] [.int (iI s16)] := by
      intro s16 e17
      have h := h s16 e17
      have ok18 : okI s16 := by rw [e17]; split; exact (okI_lit rfl); exact (okI_lit rfl)
      refine z_callS C [.int (iI s16)] [] 1 d_d_divide_56 (c_d_fits (zl E) G htl h ok18) k_250 k_248 k_249 k_1 (by decide)  (by decide +kernel) rfl rfl (Nat.le_of_ble_eq_true rfl) hroom_d_fits (fun _r _s33 ok19 hq => ?_) (fun kx σx hx => by subst hQ; exact zt_leave C hX ⟨by decide, by decide⟩ hx)
      obtain ⟨hs_, hk_⟩ := hq
      subst hs_
      have h := hk_
      refine z_iload_n C 5 d_d_divide_59 rfl ?_
      refine Jo0.walk (fun σ20 => Z E G 10 0 0 Q σ20 104 [(0, .ref (zA G 42)), (6, .ref (zA G r1)), (7, .ref (zA G r3))] []) h ?_ ?_
      · intro σ20 h
        refine z_aload_n C 0 d_d_divide_104 rfl ?_
        refine z_aload C 1 d_d_divide_105 rfl ?_
        refine z_callV C "LimbDesk" [.ref (zA G r1)] [] 1 d_d_divide_107 (c_d_into (zl E) G htl h ok2) k_265 k_262 k_264 k_s3 k_1 (by decide) (recv_D C) (by decide +kernel) rfl rfl (Nat.le_of_ble_eq_true rfl) hroom_d_into (fun r22 σ23 ok24 hq => ?_) (fun kx σx hx => by subst hQ; exact zt_leave C hX ⟨by decide, by decide⟩ hx)
        have h := hq
        refine z_pop C d_d_divide_110 rfl ?_
        refine z_aload C 2 d_d_divide_111 rfl ?_
        refine z_aload_n C 0 d_d_divide_113 rfl ?_
        refine z_dget C 2 d_d_divide_114 (by decide) k_45 rfl rfl ?_
        refine z_callV C "LimbDesk$Num" [.ref (zA G 17)] [] 1 d_d_divide_117 (c_n_take (zl E) G h ok4 ⟨by decide, by decide⟩) k_269 k_266 k_267 k_268 k_2 (by decide) (recv_N C ok4) (by decide +kernel) rfl rfl (Nat.le_of_ble_eq_true rfl) hroom_n_take (fun _r σ25 ok26 hq => ?_) (fun _ _ hx => hx.elim)
        have h := hq
        refine z_aload C 2 d_d_divide_120 rfl ?_
        refine z_nget_sign C d_d_divide_122 k_34 ok4 ?_
        obtain ⟨ok27, h⟩ := h
        subst hQ
        exact z_ireturn C d_d_divide_125.1 hr ⟨Nat.zero_le _, Nat.zero_le _⟩ ok27 h
      · intro J21 HJ21 h
        refine z_if_eq C d_d_divide_60 h_p0 (fun hb28 => ?_) (fun hb28 => ?_)
        · have h := h.1 hb28
          refine z_aload_n C 4 d_d_divide_85 rfl ?_
          refine z_dget C 1 d_d_divide_86 (by decide) k_44 rfl rfl ?_
          refine z_aload C 1 d_d_divide_89 rfl ?_
          refine z_aload C 0 d_d_divide_91 rfl ?_
          refine z_aload_n C 4 d_d_divide_93 rfl ?_
          refine z_dget C 2 d_d_divide_94 (by decide) k_45 rfl rfl ?_
          refine z_aload_n C 4 d_d_divide_97 rfl ?_
          refine z_dget C 3 d_d_divide_98 (by decide) k_46 rfl rfl ?_
          refine z_callV C "LimbDesk$Num" [.ref (zA G r5), .ref (zA G r7), .ref (zA G 17), .ref (zA G 18)] [] 4 d_d_divide_101 (c_n_quotient (zl E) G h ⟨by decide, by decide⟩ ok6 ok8 ⟨by decide, by decide⟩ ⟨by decide, by decide⟩) k_331 k_350 k_329 k_330 k_2 (by decide) (recv_N C ⟨by decide, by decide⟩) (by decide +kernel) rfl rfl (Nat.le_of_ble_eq_true rfl) hroom_n_quotient (fun _r σ29 ok30 hq => ?_) (fun _ _ hx => hx.elim)
          have h := hq
          refine z_sub [(0, .ref (zA G 42)), (6, .ref (zA G r1)), (7, .ref (zA G r3))] [4, 3, 2] rfl ?_
          exact HJ21 _ h
        · have h := h.2 hb28
          refine z_aload_n C 4 d_d_divide_63 rfl ?_
          refine z_dget C 1 d_d_divide_64 (by decide) k_44 rfl rfl ?_
          refine z_aload C 1 d_d_divide_67 rfl ?_
          refine z_aload C 0 d_d_divide_69 rfl ?_
          refine z_aload_n C 4 d_d_divide_71 rfl ?_
          refine z_dget C 2 d_d_divide_72 (by decide) k_45 rfl rfl ?_
          refine z_aload_n C 4 d_d_divide_75 rfl ?_
          refine z_dget C 3 d_d_divide_76 (by decide) k_46 rfl rfl ?_
          refine z_callV C "LimbDesk$Num" [.ref (zA G r5), .ref (zA G r7), .ref (zA G 17), .ref (zA G 18)] [] 4 d_d_divide_79 (c_n_floor (zl E) G h ⟨by decide, by decide⟩ ok6 ok8 ⟨by decide, by decide⟩ ⟨by decide, by decide⟩) k_327 k_324 k_325 k_326 k_2 (by decide) (recv_N C ⟨by decide, by decide⟩) (by decide +kernel) rfl rfl (Nat.le_of_ble_eq_true rfl) hroom_n_floor (fun _r σ31 ok32 hq => ?_) (fun _ _ hx => hx.elim)
          have h := hq
          refine z_goto C d_d_divide_82 ?_
          refine z_sub [(0, .ref (zA G 42)), (6, .ref (zA G r1)), (7, .ref (zA G r3))] [4, 3, 2] rfl ?_
          exact HJ21 _ h
    clear h
    refine z_if_eq C d_d_divide_48 ok14 (fun hb15 => ?_) (fun hb15 => ?_)
    · refine z_iconst C d_d_divide_55 ?_
      exact hj _ (if_pos hb15).symm
    · refine z_iconst C d_d_divide_51 ?_
      refine z_goto C d_d_divide_52 ?_
      exact hj _ (if_neg hb15).symm
  clear h
  refine z_icmp_eq C d_d_divide_32 h_p1 h_p2 (fun hb9 => ?_) (fun hb9 => ?_)
  · refine z_iconst C d_d_divide_39 ?_
    exact hj _ (if_pos hb9).symm
  · refine z_iconst C d_d_divide_35 ?_
    refine z_goto C d_d_divide_36 ?_
    exact hj _ (if_neg hb9).symm
theorem d_d_shift_0 : DD b_d_shift 0 (.aload_n 0) 1 1 := ⟨by decide +kernel, rfl⟩
theorem d_d_shift_1 : DD b_d_shift 1 (.iload_n 1) 1 2 := ⟨by decide +kernel, rfl⟩
theorem d_d_shift_2 : DD b_d_shift 2 (.invokevirtual 63) 3 5 := ⟨by decide +kernel, rfl⟩
theorem d_d_shift_5 : DD b_d_shift 5 (.astore 4) 2 7 := ⟨by decide +kernel, rfl⟩
theorem d_d_shift_7 : DD b_d_shift 7 (.aload_n 0) 1 8 := ⟨by decide +kernel, rfl⟩
theorem d_d_shift_8 : DD b_d_shift 8 (.iload_n 2) 1 9 := ⟨by decide +kernel, rfl⟩
theorem d_d_shift_9 : DD b_d_shift 9 (.invokevirtual 63) 3 12 := ⟨by decide +kernel, rfl⟩
theorem d_d_shift_12 : DD b_d_shift 12 (.astore 5) 2 14 := ⟨by decide +kernel, rfl⟩
theorem d_d_shift_14 : DD b_d_shift 14 (.iload_n 3) 1 15 := ⟨by decide +kernel, rfl⟩
theorem d_d_shift_15 : DD b_d_shift 15 (.sipush (-4000)) 3 18 := ⟨by decide +kernel, rfl⟩
theorem d_d_shift_18 : DD b_d_shift 18 (.sipush 4000) 3 21 := ⟨by decide +kernel, rfl⟩
theorem d_d_shift_21 : DD b_d_shift 21 (.invokestatic 44) 3 24 := ⟨by decide +kernel, rfl⟩
theorem d_d_shift_24 : DD b_d_shift 24 (.invokestatic 48) 3 27 := ⟨by decide +kernel, rfl⟩
theorem d_d_shift_27 : DD b_d_shift 27 (.iload_n 3) 1 28 := ⟨by decide +kernel, rfl⟩
theorem d_d_shift_28 : DB b_d_shift 28 (.ifCond .ge 17) 17 31 45 := ⟨by decide +kernel, rfl, rfl⟩
theorem d_d_shift_31 : DD b_d_shift 31 (.aload_n 0) 1 32 := ⟨by decide +kernel, rfl⟩
theorem d_d_shift_32 : DD b_d_shift 32 (.getfield 18) 3 35 := ⟨by decide +kernel, rfl⟩
theorem d_d_shift_35 : DD b_d_shift 35 (.aload 5) 2 37 := ⟨by decide +kernel, rfl⟩
theorem d_d_shift_37 : DD b_d_shift 37 (.iload_n 3) 1 38 := ⟨by decide +kernel, rfl⟩
theorem d_d_shift_38 : DD b_d_shift 38 .ineg 1 39 := ⟨by decide +kernel, rfl⟩
theorem d_d_shift_39 : DD b_d_shift 39 (.invokevirtual 116) 3 42 := ⟨by decide +kernel, rfl⟩
theorem d_d_shift_42 : DB b_d_shift 42 (.goto 54) 54 45 96 := ⟨by decide +kernel, rfl, rfl⟩
theorem d_d_shift_45 : DD b_d_shift 45 (.aload 5) 2 47 := ⟨by decide +kernel, rfl⟩
theorem d_d_shift_47 : DD b_d_shift 47 (.getfield 88) 3 50 := ⟨by decide +kernel, rfl⟩
theorem d_d_shift_50 : DB b_d_shift 50 (.ifCond .eq 16) 16 53 66 := ⟨by decide +kernel, rfl, rfl⟩
theorem d_d_shift_53 : DD b_d_shift 53 (.aload 5) 2 55 := ⟨by decide +kernel, rfl⟩
theorem d_d_shift_55 : DD b_d_shift 55 (.invokevirtual 52) 3 58 := ⟨by decide +kernel, rfl⟩
theorem d_d_shift_58 : DD b_d_shift 58 (.iload_n 3) 1 59 := ⟨by decide +kernel, rfl⟩
theorem d_d_shift_59 : DD b_d_shift 59 .iadd 1 60 := ⟨by decide +kernel, rfl⟩
theorem d_d_shift_60 : DD b_d_shift 60 (.sipush 2048) 3 63 := ⟨by decide +kernel, rfl⟩
theorem d_d_shift_63 : DB b_d_shift 63 (.if_icmp .gt 7) 7 66 70 := ⟨by decide +kernel, rfl, rfl⟩
theorem d_d_shift_66 : DD b_d_shift 66 (.iconst 1) 1 67 := ⟨by decide +kernel, rfl⟩
theorem d_d_shift_67 : DB b_d_shift 67 (.goto 4) 4 70 71 := ⟨by decide +kernel, rfl, rfl⟩
theorem d_d_shift_70 : DD b_d_shift 70 (.iconst 0) 1 71 := ⟨by decide +kernel, rfl⟩
theorem d_d_shift_71 : DD b_d_shift 71 (.invokestatic 56) 3 74 := ⟨by decide +kernel, rfl⟩
theorem d_d_shift_74 : DD b_d_shift 74 (.aload_n 0) 1 75 := ⟨by decide +kernel, rfl⟩
theorem d_d_shift_75 : DD b_d_shift 75 (.getfield 18) 3 78 := ⟨by decide +kernel, rfl⟩
theorem d_d_shift_78 : DD b_d_shift 78 (.aload 5) 2 80 := ⟨by decide +kernel, rfl⟩
theorem d_d_shift_80 : DD b_d_shift 80 (.aload 5) 2 82 := ⟨by decide +kernel, rfl⟩
theorem d_d_shift_82 : DD b_d_shift 82 (.getfield 88) 3 85 := ⟨by decide +kernel, rfl⟩
theorem d_d_shift_85 : DB b_d_shift 85 (.ifCond .ne 7) 7 88 92 := ⟨by decide +kernel, rfl, rfl⟩
theorem d_d_shift_88 : DD b_d_shift 88 (.iconst 0) 1 89 := ⟨by decide +kernel, rfl⟩
theorem d_d_shift_89 : DB b_d_shift 89 (.goto 4) 4 92 93 := ⟨by decide +kernel, rfl, rfl⟩
theorem d_d_shift_92 : DD b_d_shift 92 (.iload_n 3) 1 93 := ⟨by decide +kernel, rfl⟩
theorem d_d_shift_93 : DD b_d_shift 93 (.invokevirtual 120) 3 96 := ⟨by decide +kernel, rfl⟩
theorem d_d_shift_96 : DD b_d_shift 96 (.aload_n 0) 1 97 := ⟨by decide +kernel, rfl⟩
theorem d_d_shift_97 : DD b_d_shift 97 (.aload 4) 2 99 := ⟨by decide +kernel, rfl⟩
theorem d_d_shift_99 : DD b_d_shift 99 (.invokevirtual 91) 3 102 := ⟨by decide +kernel, rfl⟩
theorem d_d_shift_102 : DD b_d_shift 102 (.invokevirtual 52) 3 105 := ⟨by decide +kernel, rfl⟩
theorem d_d_shift_105 : DD b_d_shift 105 .ireturn 1 106 := ⟨by decide +kernel, rfl⟩
set_option maxRecDepth 20000 in
set_option maxHeartbeats 4000000 in
theorem c_d_shift (l : Launch) (G : ZG) (htl : l.stackTraces = false) {p0 p1 p2 : Int} {σ : Mem} {K : Int → Mem → Prop} {X : Int → Mem → Prop} (h : wp_d_shift p0 p1 p2 σ K X) (h_p0 : okI p0) (h_p1 : okI p1) (h_p2 : okI p2) : Ct l G y_d_shift (.code y_d_shift b_d_shift 6 (some .int)) { frames := 8, cells := 1, slots := 6, locals := 141 } 0 0 1 [.ref (zA G 42), .int (iI p0), .int (iI p1), .int (iI p2)] σ K X := by
  unfold wp_d_shift at h
  refine Ct.ofZ [(0, .ref (zA G 42)), (1, .int (iI p0)), (2, .int (iI p1)), (3, .int (iI p2))] "LimbDesk" (by decide) rfl (Nat.le_of_ble_eq_true rfl) rfl ?_
  intro E hR hlE C hr hX
  subst hlE
  have hroom_d_at : 7 + 1 ≤ (zR E).frames ∧ 8 + (2 + 11) + 120 ≤ (zR E).locals ∧ 0 + 1 ≤ (zR E).cells ∧ 0 + 6 ≤ (zR E).slots := by rw [hR]; decide
  have hroom_d_fits : 6 + 1 ≤ (zR E).frames ∧ 8 + (1 + 11) + 100 ≤ (zR E).locals ∧ 0 + 1 ≤ (zR E).cells ∧ 0 + 6 ≤ (zR E).slots := by rw [hR]; decide
  have hroom_d_good : 6 + 1 ≤ (zR E).frames ∧ 8 + (1 + 11) + 100 ≤ (zR E).locals ∧ 0 + 1 ≤ (zR E).cells ∧ 0 + 6 ≤ (zR E).slots := by rw [hR]; decide
  have hroom_d_in : 0 + 1 ≤ (zR E).frames ∧ 8 + (3 + 11) + 0 ≤ (zR E).locals ∧ 0 + 0 ≤ (zR E).cells ∧ 0 + 0 ≤ (zR E).slots := by rw [hR]; decide
  have hroom_d_into : 7 + 1 ≤ (zR E).frames ∧ 8 + (2 + 11) + 120 ≤ (zR E).locals ∧ 0 + 1 ≤ (zR E).cells ∧ 0 + 6 ≤ (zR E).slots := by rw [hR]; decide
  have hroom_n_bits : 1 + 1 ≤ (zR E).frames ∧ 8 + (1 + 11) + 21 ≤ (zR E).locals ∧ 0 + 0 ≤ (zR E).cells ∧ 0 + 0 ≤ (zR E).slots := by rw [hR]; decide
  have hroom_n_left : 1 + 1 ≤ (zR E).frames ∧ 8 + (9 + 11) + 22 ≤ (zR E).locals ∧ 0 + 0 ≤ (zR E).cells ∧ 0 + 0 ≤ (zR E).slots := by rw [hR]; decide
  have hroom_n_right : 1 + 1 ≤ (zR E).frames ∧ 8 + (9 + 11) + 22 ≤ (zR E).locals ∧ 0 + 0 ≤ (zR E).cells ∧ 0 + 0 ≤ (zR E).slots := by rw [hR]; decide
  clear hR
  obtain ⟨Q, hQ⟩ : ∃ Q, Q = MQX G (zb E) 1 K X (zs E) 0 0 1 6 := ⟨_, rfl⟩
  show Z E G 6 0 0 (MQX G (zb E) 1 K X (zs E) 0 0 1 6) σ 0 [(0, .ref (zA G 42)), (1, .int (iI p0)), (2, .int (iI p1)), (3, .int (iI p2))] []
  rw [← hQ]
  refine z_aload_n C 0 d_d_shift_0 rfl ?_
  refine z_iload_n C 1 d_d_shift_1 rfl ?_
  refine z_callV C "LimbDesk" [.int (iI p0)] [] 1 d_d_shift_2 (c_d_at (zl E) G htl h h_p0) k_80 k_77 k_79 k_s0 k_1 (by decide) (recv_D C) (by decide +kernel) rfl rfl (Nat.le_of_ble_eq_true rfl) hroom_d_at (fun r1 _s42 ok2 hq => ?_) (fun kx σx hx => by subst hQ; exact zt_leave C hX ⟨by decide, by decide⟩ hx)
  obtain ⟨hs_, hk_⟩ := hq
  subst hs_
  have h := hk_
  refine z_astore C [(4, .ref (zA G r1)), (0, .ref (zA G 42)), (1, .int (iI p0)), (2, .int (iI p1)), (3, .int (iI p2))] d_d_shift_5 (by decide) rfl ?_
  refine z_aload_n C 1 d_d_shift_7 rfl ?_
  refine z_iload_n C 3 d_d_shift_8 rfl ?_
  refine z_callV C "LimbDesk" [.int (iI p1)] [] 1 d_d_shift_9 (c_d_at (zl E) G htl h h_p1) k_80 k_77 k_79 k_s0 k_1 (by decide) (recv_D C) (by decide +kernel) rfl rfl (Nat.le_of_ble_eq_true rfl) hroom_d_at (fun r3 _s41 ok4 hq => ?_) (fun kx σx hx => by subst hQ; exact zt_leave C hX ⟨by decide, by decide⟩ hx)
  obtain ⟨hs_, hk_⟩ := hq
  subst hs_
  have h := hk_
  refine z_astore C [(5, .ref (zA G r3)), (4, .ref (zA G r1)), (0, .ref (zA G 42)), (1, .int (iI p0)), (2, .int (iI p1)), (3, .int (iI p2))] d_d_shift_12 (by decide) rfl ?_
  refine z_iload_n C 5 d_d_shift_14 rfl ?_
  refine z_sipush C d_d_shift_15 (by decide) ?_
  refine z_sipush C d_d_shift_18 (by decide) ?_
  refine z_callS C [.int (iI p2), .int (iI (-4000)), .int (iI 4000)] [] 3 d_d_shift_21 (c_d_in (zl E) G h h_p2 (okI_lit rfl) (okI_lit rfl)) k_83 k_81 k_82 k_1 (by decide)  (by decide +kernel) rfl rfl (Nat.le_of_ble_eq_true rfl) hroom_d_in (fun r5 _s40 ok6 hq => ?_) (fun _ _ hx => hx.elim)
  obtain ⟨hs_, hk_⟩ := hq
  subst hs_
  have h := hk_
  refine z_callS C [.int (iI r5)] [] 1 d_d_shift_24 (c_d_good (zl E) G htl h (okI_b ok6)) k_86 k_84 k_85 k_1 (by decide)  (by decide +kernel) rfl rfl (Nat.le_of_ble_eq_true rfl) hroom_d_good (fun _r _s39 ok7 hq => ?_) (fun kx σx hx => by subst hQ; exact zt_leave C hX ⟨by decide, by decide⟩ hx)
  obtain ⟨hs_, hk_⟩ := hq
  subst hs_
  have h := hk_
  refine z_iload_n C 5 d_d_shift_27 rfl ?_
  refine Jo0.walk (fun σ8 => Z E G 6 0 0 Q σ8 96 [(0, .ref (zA G 42)), (4, .ref (zA G r1))] []) h ?_ ?_
  · intro σ8 h
    refine z_aload_n C 0 d_d_shift_96 rfl ?_
    refine z_aload C 1 d_d_shift_97 rfl ?_
    refine z_callV C "LimbDesk" [.ref (zA G r1)] [] 1 d_d_shift_99 (c_d_into (zl E) G htl h ok2) k_265 k_262 k_264 k_s3 k_1 (by decide) (recv_D C) (by decide +kernel) rfl rfl (Nat.le_of_ble_eq_true rfl) hroom_d_into (fun r10 σ11 ok12 hq => ?_) (fun kx σx hx => by subst hQ; exact zt_leave C hX ⟨by decide, by decide⟩ hx)
    have h := hq
    refine z_callV C "LimbDesk$Num" [] [] 0 d_d_shift_102 (c_n_bits (zl E) G h ok12) k_155 k_152 k_153 k_154 k_2 (by decide) (recv_N C ok12) (by decide +kernel) rfl rfl (Nat.le_of_ble_eq_true rfl) hroom_n_bits (fun r13 _s15 ok14 hq => ?_) (fun _ _ hx => hx.elim)
    obtain ⟨hs_, hk_⟩ := hq
    subst hs_
    have h := hk_
    subst hQ
    exact z_ireturn C d_d_shift_105.1 hr ⟨Nat.zero_le _, Nat.zero_le _⟩ ok14 h
  · intro J9 HJ9 h
    refine z_if_ge C d_d_shift_28 h_p2 (fun hb16 => ?_) (fun hb16 => ?_)
    · have h := h.1 hb16
      refine z_aload C 0 d_d_shift_45 rfl ?_
      refine z_nget_sign C d_d_shift_47 k_34 ok4 ?_
      obtain ⟨ok17, h⟩ := h
      refine Jq1.walk (fun s18 => okI s18 → Z E G 6 0 0 Q σ 71 [(0, .ref (zA G 42)), (3, .int (iI p2)), (4, .ref (zA G r1)), (5, .ref (zA G r3))] [.int (iI s18)]) h ?_ ?_
      · intro s18 h ok19
        refine z_callS C [.int (iI s18)] [] 1 d_d_shift_71 (c_d_fits (zl E) G htl h ok19) k_250 k_248 k_249 k_1 (by decide)  (by decide +kernel) rfl rfl (Nat.le_of_ble_eq_true rfl) hroom_d_fits (fun _r _s28 ok21 hq => ?_) (fun kx σx hx => by subst hQ; exact zt_leave C hX ⟨by decide, by decide⟩ hx)
        obtain ⟨hs_, hk_⟩ := hq
        subst hs_
        have h := hk_
        refine z_aload_n C 0 d_d_shift_74 rfl ?_
        refine z_dget C 1 d_d_shift_75 (by decide) k_44 rfl rfl ?_
        refine z_aload C 3 d_d_shift_78 rfl ?_
        refine z_aload C 3 d_d_shift_80 rfl ?_
        refine z_nget_sign C d_d_shift_82 k_34 ok4 ?_
        have hj : ∀ s23 : Int, s23 = (if (σ r3 2) ≠ 0 then p2 else 0) → Z E G 6 0 0 Q σ 93 [(0, .ref (zA G 42)), (3, .int (iI p2)), (4, .ref (zA G r1)), (5, .ref (zA G r3))] [.int (iI s23), .ref (zA G r3), .ref (zA G 16)] := by
          intro s23 e24
          have h := h s23 e24
          have ok25 : okI s23 := by rw [e24]; split; exact h_p2; exact (okI_lit rfl)
          refine z_callV C "LimbDesk$Num" [.ref (zA G r3), .int (iI s23)] [] 2 d_d_shift_93 (c_n_left (zl E) G h ⟨by decide, by decide⟩ ok4 ok25) k_337 k_359 k_335 k_336 k_2 (by decide) (recv_N C ⟨by decide, by decide⟩) (by decide +kernel) rfl rfl (Nat.le_of_ble_eq_true rfl) hroom_n_left (fun _r σ26 ok27 hq => ?_) (fun _ _ hx => hx.elim)
          have h := hq
          refine z_sub [(0, .ref (zA G 42)), (4, .ref (zA G r1))] [0, 2] rfl ?_
          exact HJ9 _ h
        clear h
        refine z_if_ne C d_d_shift_85 ok17 (fun hb22 => ?_) (fun hb22 => ?_)
        · refine z_iload_n C 1 d_d_shift_92 rfl ?_
          exact hj _ (if_pos hb22).symm
        · refine z_iconst C d_d_shift_88 ?_
          refine z_goto C d_d_shift_89 ?_
          exact hj _ (if_neg (not_not_intro hb22)).symm
      · intro J20 HJ20 h
        refine Jq0.walk (Z E G 6 0 0 Q σ 66 [(0, .ref (zA G 42)), (3, .int (iI p2)), (4, .ref (zA G r1)), (5, .ref (zA G r3))] []) h ?_ ?_
        · intro h
          refine z_iconst C d_d_shift_66 ?_
          refine z_goto C d_d_shift_67 ?_
          refine z_sub [(0, .ref (zA G 42)), (3, .int (iI p2)), (4, .ref (zA G r1)), (5, .ref (zA G r3))] [0, 1, 2, 3] rfl ?_
          exact HJ20 _ h (okI_lit rfl)
        · intro J29 HJ29 h
          refine z_if_eq C d_d_shift_50 ok17 (fun hb30 => ?_) (fun hb30 => ?_)
          · have h := h.1 hb30
            refine z_sub [(0, .ref (zA G 42)), (3, .int (iI p2)), (4, .ref (zA G r1)), (5, .ref (zA G r3))] [2, 5, 1, 0] rfl ?_
            exact HJ29 h
          · have h := h.2 hb30
            refine z_aload C 0 d_d_shift_53 rfl ?_
            refine z_callV C "LimbDesk$Num" [] [] 0 d_d_shift_55 (c_n_bits (zl E) G h ok4) k_155 k_152 k_153 k_154 k_2 (by decide) (recv_N C ok4) (by decide +kernel) rfl rfl (Nat.le_of_ble_eq_true rfl) hroom_n_bits (fun r31 _s35 ok32 hq => ?_) (fun _ _ hx => hx.elim)
            obtain ⟨hs_, hk_⟩ := hq
            subst hs_
            have h := hk_
            refine z_iload_n C 5 d_d_shift_58 rfl ?_
            refine z_iadd C d_d_shift_59 ?_
            refine z_sipush C d_d_shift_60 (by decide) ?_
            obtain ⟨ok33, h⟩ := h
            refine z_icmp_gt C d_d_shift_63 ok33 (okI_lit rfl) (fun hb34 => ?_) (fun hb34 => ?_)
            · have h := h.1 hb34
              refine z_iconst C d_d_shift_70 ?_
              refine z_sub [(0, .ref (zA G 42)), (3, .int (iI p2)), (4, .ref (zA G r1)), (5, .ref (zA G r3))] [2, 5, 1, 0] rfl ?_
              exact HJ20 _ h (okI_lit rfl)
            · have h := h.2 hb34
              refine z_sub [(0, .ref (zA G 42)), (3, .int (iI p2)), (4, .ref (zA G r1)), (5, .ref (zA G r3))] [2, 5, 1, 0] rfl ?_
              exact HJ29 h
    · have h := h.2 hb16
      refine z_aload_n C 2 d_d_shift_31 rfl ?_
      refine z_dget C 1 d_d_shift_32 (by decide) k_44 rfl rfl ?_
      refine z_aload C 0 d_d_shift_35 rfl ?_
      refine z_iload_n C 5 d_d_shift_37 rfl ?_
      refine z_ineg C d_d_shift_38 ?_
      obtain ⟨ok36, h⟩ := h
      refine z_callV C "LimbDesk$Num" [.ref (zA G r3), .int (iI (-p2))] [] 2 d_d_shift_39 (c_n_right (zl E) G h ⟨by decide, by decide⟩ ok4 ok36) k_344 k_358 k_342 k_343 k_2 (by decide) (recv_N C ⟨by decide, by decide⟩) (by decide +kernel) rfl rfl (Nat.le_of_ble_eq_true rfl) hroom_n_right (fun _r σ37 ok38 hq => ?_) (fun _ _ hx => hx.elim)
      have h := hq
      refine z_goto C d_d_shift_42 ?_
      refine z_sub [(0, .ref (zA G 42)), (4, .ref (zA G r1))] [2, 1] rfl ?_
      exact HJ9 _ h
theorem d_d_bits_0 : DD b_d_bits 0 (.aload_n 0) 1 1 := ⟨by decide +kernel, rfl⟩
theorem d_d_bits_1 : DD b_d_bits 1 (.iload_n 2) 1 2 := ⟨by decide +kernel, rfl⟩
theorem d_d_bits_2 : DD b_d_bits 2 (.invokevirtual 63) 3 5 := ⟨by decide +kernel, rfl⟩
theorem d_d_bits_5 : DD b_d_bits 5 (.astore 5) 2 7 := ⟨by decide +kernel, rfl⟩
theorem d_d_bits_7 : DD b_d_bits 7 (.aload_n 0) 1 8 := ⟨by decide +kernel, rfl⟩
theorem d_d_bits_8 : DD b_d_bits 8 (.iload_n 3) 1 9 := ⟨by decide +kernel, rfl⟩
theorem d_d_bits_9 : DD b_d_bits 9 (.invokevirtual 63) 3 12 := ⟨by decide +kernel, rfl⟩
theorem d_d_bits_12 : DD b_d_bits 12 (.astore 6) 2 14 := ⟨by decide +kernel, rfl⟩
theorem d_d_bits_14 : DD b_d_bits 14 (.aload_n 0) 1 15 := ⟨by decide +kernel, rfl⟩
theorem d_d_bits_15 : DD b_d_bits 15 (.iload 4) 2 17 := ⟨by decide +kernel, rfl⟩
theorem d_d_bits_17 : DD b_d_bits 17 (.invokevirtual 63) 3 20 := ⟨by decide +kernel, rfl⟩
theorem d_d_bits_20 : DD b_d_bits 20 (.astore 7) 2 22 := ⟨by decide +kernel, rfl⟩
theorem d_d_bits_22 : DD b_d_bits 22 (.iload_n 1) 1 23 := ⟨by decide +kernel, rfl⟩
theorem d_d_bits_23 : DD b_d_bits 23 (.iconst 0) 1 24 := ⟨by decide +kernel, rfl⟩
theorem d_d_bits_24 : DD b_d_bits 24 (.iconst 2) 1 25 := ⟨by decide +kernel, rfl⟩
theorem d_d_bits_25 : DD b_d_bits 25 (.invokestatic 44) 3 28 := ⟨by decide +kernel, rfl⟩
theorem d_d_bits_28 : DD b_d_bits 28 (.invokestatic 48) 3 31 := ⟨by decide +kernel, rfl⟩
theorem d_d_bits_31 : DD b_d_bits 31 (.aload_n 0) 1 32 := ⟨by decide +kernel, rfl⟩
theorem d_d_bits_32 : DD b_d_bits 32 (.getfield 18) 3 35 := ⟨by decide +kernel, rfl⟩
theorem d_d_bits_35 : DD b_d_bits 35 (.iload_n 1) 1 36 := ⟨by decide +kernel, rfl⟩
theorem d_d_bits_36 : DD b_d_bits 36 (.aload 6) 2 38 := ⟨by decide +kernel, rfl⟩
theorem d_d_bits_38 : DD b_d_bits 38 (.aload 7) 2 40 := ⟨by decide +kernel, rfl⟩
theorem d_d_bits_40 : DD b_d_bits 40 (.invokevirtual 123) 3 43 := ⟨by decide +kernel, rfl⟩
theorem d_d_bits_43 : DD b_d_bits 43 (.aload_n 0) 1 44 := ⟨by decide +kernel, rfl⟩
theorem d_d_bits_44 : DD b_d_bits 44 (.aload 5) 2 46 := ⟨by decide +kernel, rfl⟩
theorem d_d_bits_46 : DD b_d_bits 46 (.invokevirtual 91) 3 49 := ⟨by decide +kernel, rfl⟩
theorem d_d_bits_49 : DD b_d_bits 49 (.getfield 88) 3 52 := ⟨by decide +kernel, rfl⟩
theorem d_d_bits_52 : DD b_d_bits 52 .ireturn 1 53 := ⟨by decide +kernel, rfl⟩
set_option maxRecDepth 20000 in
set_option maxHeartbeats 4000000 in
theorem c_d_bits (l : Launch) (G : ZG) (htl : l.stackTraces = false) {p0 p1 p2 p3 : Int} {σ : Mem} {K : Int → Mem → Prop} {X : Int → Mem → Prop} (h : wp_d_bits p0 p1 p2 p3 σ K X) (h_p0 : okI p0) (h_p1 : okI p1) (h_p2 : okI p2) (h_p3 : okI p3) : Ct l G y_d_bits (.code y_d_bits b_d_bits 8 (some .int)) { frames := 8, cells := 1, slots := 6, locals := 141 } 0 0 1 [.ref (zA G 42), .int (iI p0), .int (iI p1), .int (iI p2), .int (iI p3)] σ K X := by
  unfold wp_d_bits at h
  refine Ct.ofZ [(0, .ref (zA G 42)), (1, .int (iI p0)), (2, .int (iI p1)), (3, .int (iI p2)), (4, .int (iI p3))] "LimbDesk" (by decide) rfl (Nat.le_of_ble_eq_true rfl) rfl ?_
  intro E hR hlE C hr hX
  subst hlE
  have hroom_d_at : 7 + 1 ≤ (zR E).frames ∧ 8 + (2 + 11) + 120 ≤ (zR E).locals ∧ 0 + 1 ≤ (zR E).cells ∧ 0 + 6 ≤ (zR E).slots := by rw [hR]; decide
  have hroom_d_good : 6 + 1 ≤ (zR E).frames ∧ 8 + (1 + 11) + 100 ≤ (zR E).locals ∧ 0 + 1 ≤ (zR E).cells ∧ 0 + 6 ≤ (zR E).slots := by rw [hR]; decide
  have hroom_d_in : 0 + 1 ≤ (zR E).frames ∧ 8 + (3 + 11) + 0 ≤ (zR E).locals ∧ 0 + 0 ≤ (zR E).cells ∧ 0 + 0 ≤ (zR E).slots := by rw [hR]; decide
  have hroom_d_into : 7 + 1 ≤ (zR E).frames ∧ 8 + (2 + 11) + 120 ≤ (zR E).locals ∧ 0 + 1 ≤ (zR E).cells ∧ 0 + 6 ≤ (zR E).slots := by rw [hR]; decide
  have hroom_n_bitwise : 1 + 1 ≤ (zR E).frames ∧ 8 + (13 + 11) + 23 ≤ (zR E).locals ∧ 0 + 0 ≤ (zR E).cells ∧ 0 + 0 ≤ (zR E).slots := by rw [hR]; decide
  clear hR
  obtain ⟨Q, hQ⟩ : ∃ Q, Q = MQX G (zb E) 1 K X (zs E) 0 0 1 6 := ⟨_, rfl⟩
  show Z E G 8 0 0 (MQX G (zb E) 1 K X (zs E) 0 0 1 6) σ 0 [(0, .ref (zA G 42)), (1, .int (iI p0)), (2, .int (iI p1)), (3, .int (iI p2)), (4, .int (iI p3))] []
  rw [← hQ]
  refine z_aload_n C 0 d_d_bits_0 rfl ?_
  refine z_iload_n C 2 d_d_bits_1 rfl ?_
  refine z_callV C "LimbDesk" [.int (iI p1)] [] 1 d_d_bits_2 (c_d_at (zl E) G htl h h_p1) k_80 k_77 k_79 k_s0 k_1 (by decide) (recv_D C) (by decide +kernel) rfl rfl (Nat.le_of_ble_eq_true rfl) hroom_d_at (fun r1 _s20 ok2 hq => ?_) (fun kx σx hx => by subst hQ; exact zt_leave C hX ⟨by decide, by decide⟩ hx)
  obtain ⟨hs_, hk_⟩ := hq
  subst hs_
  have h := hk_
  refine z_astore C [(5, .ref (zA G r1)), (0, .ref (zA G 42)), (1, .int (iI p0)), (2, .int (iI p1)), (3, .int (iI p2)), (4, .int (iI p3))] d_d_bits_5 (by decide) rfl ?_
  refine z_aload_n C 1 d_d_bits_7 rfl ?_
  refine z_iload_n C 4 d_d_bits_8 rfl ?_
  refine z_callV C "LimbDesk" [.int (iI p2)] [] 1 d_d_bits_9 (c_d_at (zl E) G htl h h_p2) k_80 k_77 k_79 k_s0 k_1 (by decide) (recv_D C) (by decide +kernel) rfl rfl (Nat.le_of_ble_eq_true rfl) hroom_d_at (fun r3 _s19 ok4 hq => ?_) (fun kx σx hx => by subst hQ; exact zt_leave C hX ⟨by decide, by decide⟩ hx)
  obtain ⟨hs_, hk_⟩ := hq
  subst hs_
  have h := hk_
  refine z_astore C [(6, .ref (zA G r3)), (5, .ref (zA G r1)), (0, .ref (zA G 42)), (1, .int (iI p0)), (2, .int (iI p1)), (3, .int (iI p2)), (4, .int (iI p3))] d_d_bits_12 (by decide) rfl ?_
  refine z_aload_n C 2 d_d_bits_14 rfl ?_
  refine z_iload C 6 d_d_bits_15 rfl ?_
  refine z_callV C "LimbDesk" [.int (iI p3)] [] 1 d_d_bits_17 (c_d_at (zl E) G htl h h_p3) k_80 k_77 k_79 k_s0 k_1 (by decide) (recv_D C) (by decide +kernel) rfl rfl (Nat.le_of_ble_eq_true rfl) hroom_d_at (fun r5 _s18 ok6 hq => ?_) (fun kx σx hx => by subst hQ; exact zt_leave C hX ⟨by decide, by decide⟩ hx)
  obtain ⟨hs_, hk_⟩ := hq
  subst hs_
  have h := hk_
  refine z_astore C [(7, .ref (zA G r5)), (6, .ref (zA G r3)), (5, .ref (zA G r1)), (0, .ref (zA G 42)), (1, .int (iI p0)), (2, .int (iI p1)), (3, .int (iI p2)), (4, .int (iI p3))] d_d_bits_20 (by decide) rfl ?_
  refine z_iload_n C 4 d_d_bits_22 rfl ?_
  refine z_iconst C d_d_bits_23 ?_
  refine z_iconst C d_d_bits_24 ?_
  refine z_callS C [.int (iI p0), .int (iI 0), .int (iI 2)] [] 3 d_d_bits_25 (c_d_in (zl E) G h h_p0 (okI_lit rfl) (okI_lit rfl)) k_83 k_81 k_82 k_1 (by decide)  (by decide +kernel) rfl rfl (Nat.le_of_ble_eq_true rfl) hroom_d_in (fun r7 _s17 ok8 hq => ?_) (fun _ _ hx => hx.elim)
  obtain ⟨hs_, hk_⟩ := hq
  subst hs_
  have h := hk_
  refine z_callS C [.int (iI r7)] [] 1 d_d_bits_28 (c_d_good (zl E) G htl h (okI_b ok8)) k_86 k_84 k_85 k_1 (by decide)  (by decide +kernel) rfl rfl (Nat.le_of_ble_eq_true rfl) hroom_d_good (fun _r _s16 ok9 hq => ?_) (fun kx σx hx => by subst hQ; exact zt_leave C hX ⟨by decide, by decide⟩ hx)
  obtain ⟨hs_, hk_⟩ := hq
  subst hs_
  have h := hk_
  refine z_aload_n C 3 d_d_bits_31 rfl ?_
  refine z_dget C 1 d_d_bits_32 (by decide) k_44 rfl rfl ?_
  refine z_iload_n C 4 d_d_bits_35 rfl ?_
  refine z_aload C 1 d_d_bits_36 rfl ?_
  refine z_aload C 0 d_d_bits_38 rfl ?_
  refine z_callV C "LimbDesk$Num" [.int (iI p0), .ref (zA G r3), .ref (zA G r5)] [] 3 d_d_bits_40 (c_n_bitwise (zl E) G h ⟨by decide, by decide⟩ h_p0 ok4 ok6) k_370 k_367 k_368 k_369 k_2 (by decide) (recv_N C ⟨by decide, by decide⟩) (by decide +kernel) rfl rfl (Nat.le_of_ble_eq_true rfl) hroom_n_bitwise (fun _r σ10 ok11 hq => ?_) (fun _ _ hx => hx.elim)
  have h := hq
  refine z_aload_n C 3 d_d_bits_43 rfl ?_
  refine z_aload C 2 d_d_bits_44 rfl ?_
  refine z_callV C "LimbDesk" [.ref (zA G r1)] [] 1 d_d_bits_46 (c_d_into (zl E) G htl h ok2) k_265 k_262 k_264 k_s3 k_1 (by decide) (recv_D C) (by decide +kernel) rfl rfl (Nat.le_of_ble_eq_true rfl) hroom_d_into (fun r12 σ13 ok14 hq => ?_) (fun kx σx hx => by subst hQ; exact zt_leave C hX ⟨by decide, by decide⟩ hx)
  have h := hq
  refine z_nget_sign C d_d_bits_49 k_34 ok14 ?_
  obtain ⟨ok15, h⟩ := h
  subst hQ
  exact z_ireturn C d_d_bits_52.1 hr ⟨Nat.zero_le _, Nat.zero_le _⟩ ok15 h
theorem d_d_power_0 : DD b_d_power 0 (.aload_n 0) 1 1 := ⟨by decide +kernel, rfl⟩
theorem d_d_power_1 : DD b_d_power 1 (.iload_n 1) 1 2 := ⟨by decide +kernel, rfl⟩
theorem d_d_power_2 : DD b_d_power 2 (.invokevirtual 63) 3 5 := ⟨by decide +kernel, rfl⟩
theorem d_d_power_5 : DD b_d_power 5 (.astore 4) 2 7 := ⟨by decide +kernel, rfl⟩
theorem d_d_power_7 : DD b_d_power 7 (.aload_n 0) 1 8 := ⟨by decide +kernel, rfl⟩
theorem d_d_power_8 : DD b_d_power 8 (.iload_n 2) 1 9 := ⟨by decide +kernel, rfl⟩
theorem d_d_power_9 : DD b_d_power 9 (.invokevirtual 63) 3 12 := ⟨by decide +kernel, rfl⟩
theorem d_d_power_12 : DD b_d_power 12 (.astore 5) 2 14 := ⟨by decide +kernel, rfl⟩
theorem d_d_power_14 : DD b_d_power 14 (.iload_n 3) 1 15 := ⟨by decide +kernel, rfl⟩
theorem d_d_power_15 : DB b_d_power 15 (.ifCond .lt 7) 7 18 22 := ⟨by decide +kernel, rfl, rfl⟩
theorem d_d_power_18 : DD b_d_power 18 (.iconst 1) 1 19 := ⟨by decide +kernel, rfl⟩
theorem d_d_power_19 : DB b_d_power 19 (.goto 4) 4 22 23 := ⟨by decide +kernel, rfl, rfl⟩
theorem d_d_power_22 : DD b_d_power 22 (.iconst 0) 1 23 := ⟨by decide +kernel, rfl⟩
theorem d_d_power_23 : DD b_d_power 23 (.invokestatic 48) 3 26 := ⟨by decide +kernel, rfl⟩
theorem d_d_power_26 : DD b_d_power 26 (.aload_n 0) 1 27 := ⟨by decide +kernel, rfl⟩
theorem d_d_power_27 : DD b_d_power 27 (.getfield 18) 3 30 := ⟨by decide +kernel, rfl⟩
theorem d_d_power_30 : DD b_d_power 30 (.aload 5) 2 32 := ⟨by decide +kernel, rfl⟩
theorem d_d_power_32 : DD b_d_power 32 (.iload_n 3) 1 33 := ⟨by decide +kernel, rfl⟩
theorem d_d_power_33 : DD b_d_power 33 .i2l 1 34 := ⟨by decide +kernel, rfl⟩
theorem d_d_power_34 : DD b_d_power 34 (.sipush 2048) 3 37 := ⟨by decide +kernel, rfl⟩
theorem d_d_power_37 : DD b_d_power 37 (.aload_n 0) 1 38 := ⟨by decide +kernel, rfl⟩
theorem d_d_power_38 : DD b_d_power 38 (.getfield 25) 3 41 := ⟨by decide +kernel, rfl⟩
theorem d_d_power_41 : DD b_d_power 41 (.invokevirtual 127) 3 44 := ⟨by decide +kernel, rfl⟩
theorem d_d_power_44 : DD b_d_power 44 (.invokestatic 56) 3 47 := ⟨by decide +kernel, rfl⟩
theorem d_d_power_47 : DD b_d_power 47 (.aload_n 0) 1 48 := ⟨by decide +kernel, rfl⟩
theorem d_d_power_48 : DD b_d_power 48 (.aload 4) 2 50 := ⟨by decide +kernel, rfl⟩
theorem d_d_power_50 : DD b_d_power 50 (.invokevirtual 91) 3 53 := ⟨by decide +kernel, rfl⟩
theorem d_d_power_53 : DD b_d_power 53 (.invokevirtual 52) 3 56 := ⟨by decide +kernel, rfl⟩
theorem d_d_power_56 : DD b_d_power 56 .ireturn 1 57 := ⟨by decide +kernel, rfl⟩
set_option maxRecDepth 20000 in
set_option maxHeartbeats 4000000 in
theorem c_d_power (l : Launch) (G : ZG) (htl : l.stackTraces = false) {p0 p1 p2 : Int} {σ : Mem} {K : Int → Mem → Prop} {X : Int → Mem → Prop} (h : wp_d_power p0 p1 p2 σ K X) (h_p0 : okI p0) (h_p1 : okI p1) (h_p2 : okI p2) : Ct l G y_d_power (.code y_d_power b_d_power 6 (some .int)) { frames := 8, cells := 1, slots := 6, locals := 141 } 0 0 1 [.ref (zA G 42), .int (iI p0), .int (iI p1), .int (iI p2)] σ K X := by
  unfold wp_d_power at h
  refine Ct.ofZ [(0, .ref (zA G 42)), (1, .int (iI p0)), (2, .int (iI p1)), (3, .int (iI p2))] "LimbDesk" (by decide) rfl (Nat.le_of_ble_eq_true rfl) rfl ?_
  intro E hR hlE C hr hX
  subst hlE
  have hroom_d_at : 7 + 1 ≤ (zR E).frames ∧ 8 + (2 + 11) + 120 ≤ (zR E).locals ∧ 0 + 1 ≤ (zR E).cells ∧ 0 + 6 ≤ (zR E).slots := by rw [hR]; decide
  have hroom_d_fits : 6 + 1 ≤ (zR E).frames ∧ 8 + (1 + 11) + 100 ≤ (zR E).locals ∧ 0 + 1 ≤ (zR E).cells ∧ 0 + 6 ≤ (zR E).slots := by rw [hR]; decide
  have hroom_d_good : 6 + 1 ≤ (zR E).frames ∧ 8 + (1 + 11) + 100 ≤ (zR E).locals ∧ 0 + 1 ≤ (zR E).cells ∧ 0 + 6 ≤ (zR E).slots := by rw [hR]; decide
  have hroom_d_into : 7 + 1 ≤ (zR E).frames ∧ 8 + (2 + 11) + 120 ≤ (zR E).locals ∧ 0 + 1 ≤ (zR E).cells ∧ 0 + 6 ≤ (zR E).slots := by rw [hR]; decide
  have hroom_n_bits : 1 + 1 ≤ (zR E).frames ∧ 8 + (1 + 11) + 21 ≤ (zR E).locals ∧ 0 + 0 ≤ (zR E).cells ∧ 0 + 0 ≤ (zR E).slots := by rw [hR]; decide
  have hroom_n_power : 2 + 1 ≤ (zR E).frames ∧ 8 + (7 + 11) + 53 ≤ (zR E).locals ∧ 0 + 0 ≤ (zR E).cells ∧ 0 + 0 ≤ (zR E).slots := by rw [hR]; decide
  clear hR
  obtain ⟨Q, hQ⟩ : ∃ Q, Q = MQX G (zb E) 1 K X (zs E) 0 0 1 6 := ⟨_, rfl⟩
  show Z E G 6 0 0 (MQX G (zb E) 1 K X (zs E) 0 0 1 6) σ 0 [(0, .ref (zA G 42)), (1, .int (iI p0)), (2, .int (iI p1)), (3, .int (iI p2))] []
  rw [← hQ]
  refine z_aload_n C 0 d_d_power_0 rfl ?_
  refine z_iload_n C 1 d_d_power_1 rfl ?_
  refine z_callV C "LimbDesk" [.int (iI p0)] [] 1 d_d_power_2 (c_d_at (zl E) G htl h h_p0) k_80 k_77 k_79 k_s0 k_1 (by decide) (recv_D C) (by decide +kernel) rfl rfl (Nat.le_of_ble_eq_true rfl) hroom_d_at (fun r1 _s23 ok2 hq => ?_) (fun kx σx hx => by subst hQ; exact zt_leave C hX ⟨by decide, by decide⟩ hx)
  obtain ⟨hs_, hk_⟩ := hq
  subst hs_
  have h := hk_
  refine z_astore C [(4, .ref (zA G r1)), (0, .ref (zA G 42)), (1, .int (iI p0)), (2, .int (iI p1)), (3, .int (iI p2))] d_d_power_5 (by decide) rfl ?_
  refine z_aload_n C 1 d_d_power_7 rfl ?_
  refine z_iload_n C 3 d_d_power_8 rfl ?_
  refine z_callV C "LimbDesk" [.int (iI p1)] [] 1 d_d_power_9 (c_d_at (zl E) G htl h h_p1) k_80 k_77 k_79 k_s0 k_1 (by decide) (recv_D C) (by decide +kernel) rfl rfl (Nat.le_of_ble_eq_true rfl) hroom_d_at (fun r3 _s22 ok4 hq => ?_) (fun kx σx hx => by subst hQ; exact zt_leave C hX ⟨by decide, by decide⟩ hx)
  obtain ⟨hs_, hk_⟩ := hq
  subst hs_
  have h := hk_
  refine z_astore C [(5, .ref (zA G r3)), (4, .ref (zA G r1)), (0, .ref (zA G 42)), (1, .int (iI p0)), (2, .int (iI p1)), (3, .int (iI p2))] d_d_power_12 (by decide) rfl ?_
  refine z_iload_n C 5 d_d_power_14 rfl ?_
  have hj : ∀ s6 : Int, s6 = (if p2 < 0 then 0 else 1) → Z E G 6 0 0 Q σ 23 [(5, .ref (zA G r3)), (4, .ref (zA G r1)), (0, .ref (zA G 42)), (1, .int (iI p0)), (2, .int (iI p1)), (3, .int (iI p2))] [.int (iI s6)] := by
    intro s6 e7
    have h := h s6 e7
    have ok8 : okI s6 := by rw [e7]; split; exact (okI_lit rfl); exact (okI_lit rfl)
    refine z_callS C [.int (iI s6)] [] 1 d_d_power_23 (c_d_good (zl E) G htl h ok8) k_86 k_84 k_85 k_1 (by decide)  (by decide +kernel) rfl rfl (Nat.le_of_ble_eq_true rfl) hroom_d_good (fun _r _s21 ok9 hq => ?_) (fun kx σx hx => by subst hQ; exact zt_leave C hX ⟨by decide, by decide⟩ hx)
    obtain ⟨hs_, hk_⟩ := hq
    subst hs_
    have h := hk_
    refine z_aload_n C 2 d_d_power_26 rfl ?_
    refine z_dget C 1 d_d_power_27 (by decide) k_44 rfl rfl ?_
    refine z_aload C 0 d_d_power_30 rfl ?_
    refine z_iload_n C 5 d_d_power_32 rfl ?_
    refine z_i2l C d_d_power_33 h_p2 ?_
    refine z_sipush C d_d_power_34 (by decide) ?_
    refine z_aload_n C 2 d_d_power_37 rfl ?_
    refine z_dget C 3 d_d_power_38 (by decide) k_46 rfl rfl ?_
    refine z_callV C "LimbDesk$Num" [.ref (zA G r3), .long (lL p2), .int (iI 2048), .ref (zA G 18)] [] 4 d_d_power_41 (c_n_power (zl E) G h ⟨by decide, by decide⟩ ok4 h_p2.L (okI_lit rfl) ⟨by decide, by decide⟩) k_384 k_381 k_382 k_383 k_2 (by decide) (recv_N C ⟨by decide, by decide⟩) (by decide +kernel) rfl rfl (Nat.le_of_ble_eq_true rfl) hroom_n_power (fun r10 σ11 ok12 hq => ?_) (fun _ _ hx => hx.elim)
    have h := hq
    refine z_callS C [.int (iI r10)] [] 1 d_d_power_44 (c_d_fits (zl E) G htl h (okI_b ok12)) k_250 k_248 k_249 k_1 (by decide)  (by decide +kernel) rfl rfl (Nat.le_of_ble_eq_true rfl) hroom_d_fits (fun _r _s20 ok13 hq => ?_) (fun kx σx hx => by subst hQ; exact zt_leave C hX ⟨by decide, by decide⟩ hx)
    obtain ⟨hs_, hk_⟩ := hq
    subst hs_
    have h := hk_
    refine z_aload_n C 2 d_d_power_47 rfl ?_
    refine z_aload C 1 d_d_power_48 rfl ?_
    refine z_callV C "LimbDesk" [.ref (zA G r1)] [] 1 d_d_power_50 (c_d_into (zl E) G htl h ok2) k_265 k_262 k_264 k_s3 k_1 (by decide) (recv_D C) (by decide +kernel) rfl rfl (Nat.le_of_ble_eq_true rfl) hroom_d_into (fun r14 σ15 ok16 hq => ?_) (fun kx σx hx => by subst hQ; exact zt_leave C hX ⟨by decide, by decide⟩ hx)
    have h := hq
    refine z_callV C "LimbDesk$Num" [] [] 0 d_d_power_53 (c_n_bits (zl E) G h ok16) k_155 k_152 k_153 k_154 k_2 (by decide) (recv_N C ok16) (by decide +kernel) rfl rfl (Nat.le_of_ble_eq_true rfl) hroom_n_bits (fun r17 _s19 ok18 hq => ?_) (fun _ _ hx => hx.elim)
    obtain ⟨hs_, hk_⟩ := hq
    subst hs_
    have h := hk_
    subst hQ
    exact z_ireturn C d_d_power_56.1 hr ⟨Nat.zero_le _, Nat.zero_le _⟩ ok18 h
  clear h
  refine z_if_lt C d_d_power_15 h_p2 (fun hb5 => ?_) (fun hb5 => ?_)
  · refine z_iconst C d_d_power_22 ?_
    exact hj _ (if_pos hb5).symm
  · refine z_iconst C d_d_power_18 ?_
    refine z_goto C d_d_power_19 ?_
    exact hj _ (if_neg (Int.not_lt.mpr hb5)).symm
theorem d_d_residue_0 : DD b_d_residue 0 (.aload_n 0) 1 1 := ⟨by decide +kernel, rfl⟩
theorem d_d_residue_1 : DD b_d_residue 1 (.iload_n 1) 1 2 := ⟨by decide +kernel, rfl⟩
theorem d_d_residue_2 : DD b_d_residue 2 (.invokevirtual 63) 3 5 := ⟨by decide +kernel, rfl⟩
theorem d_d_residue_5 : DD b_d_residue 5 (.astore 5) 2 7 := ⟨by decide +kernel, rfl⟩
theorem d_d_residue_7 : DD b_d_residue 7 (.aload_n 0) 1 8 := ⟨by decide +kernel, rfl⟩
theorem d_d_residue_8 : DD b_d_residue 8 (.iload_n 2) 1 9 := ⟨by decide +kernel, rfl⟩
theorem d_d_residue_9 : DD b_d_residue 9 (.invokevirtual 63) 3 12 := ⟨by decide +kernel, rfl⟩
theorem d_d_residue_12 : DD b_d_residue 12 (.astore 6) 2 14 := ⟨by decide +kernel, rfl⟩
theorem d_d_residue_14 : DD b_d_residue 14 (.aload_n 0) 1 15 := ⟨by decide +kernel, rfl⟩
theorem d_d_residue_15 : DD b_d_residue 15 (.iload_n 3) 1 16 := ⟨by decide +kernel, rfl⟩
theorem d_d_residue_16 : DD b_d_residue 16 (.invokevirtual 63) 3 19 := ⟨by decide +kernel, rfl⟩
theorem d_d_residue_19 : DD b_d_residue 19 (.astore 7) 2 21 := ⟨by decide +kernel, rfl⟩
theorem d_d_residue_21 : DD b_d_residue 21 (.aload_n 0) 1 22 := ⟨by decide +kernel, rfl⟩
theorem d_d_residue_22 : DD b_d_residue 22 (.iload 4) 2 24 := ⟨by decide +kernel, rfl⟩
theorem d_d_residue_24 : DD b_d_residue 24 (.invokevirtual 63) 3 27 := ⟨by decide +kernel, rfl⟩
theorem d_d_residue_27 : DD b_d_residue 27 (.astore 8) 2 29 := ⟨by decide +kernel, rfl⟩
theorem d_d_residue_29 : DD b_d_residue 29 (.aload 7) 2 31 := ⟨by decide +kernel, rfl⟩
theorem d_d_residue_31 : DD b_d_residue 31 (.getfield 88) 3 34 := ⟨by decide +kernel, rfl⟩
theorem d_d_residue_34 : DB b_d_residue 34 (.ifCond .lt 7) 7 37 41 := ⟨by decide +kernel, rfl, rfl⟩
theorem d_d_residue_37 : DD b_d_residue 37 (.iconst 1) 1 38 := ⟨by decide +kernel, rfl⟩
theorem d_d_residue_38 : DB b_d_residue 38 (.goto 4) 4 41 42 := ⟨by decide +kernel, rfl, rfl⟩
theorem d_d_residue_41 : DD b_d_residue 41 (.iconst 0) 1 42 := ⟨by decide +kernel, rfl⟩
theorem d_d_residue_42 : DD b_d_residue 42 (.invokestatic 48) 3 45 := ⟨by decide +kernel, rfl⟩
theorem d_d_residue_45 : DD b_d_residue 45 (.aload 8) 2 47 := ⟨by decide +kernel, rfl⟩
theorem d_d_residue_47 : DD b_d_residue 47 (.getfield 88) 3 50 := ⟨by decide +kernel, rfl⟩
theorem d_d_residue_50 : DB b_d_residue 50 (.ifCond .eq 7) 7 53 57 := ⟨by decide +kernel, rfl, rfl⟩
theorem d_d_residue_53 : DD b_d_residue 53 (.iconst 1) 1 54 := ⟨by decide +kernel, rfl⟩
theorem d_d_residue_54 : DB b_d_residue 54 (.goto 4) 4 57 58 := ⟨by decide +kernel, rfl, rfl⟩
theorem d_d_residue_57 : DD b_d_residue 57 (.iconst 0) 1 58 := ⟨by decide +kernel, rfl⟩
theorem d_d_residue_58 : DD b_d_residue 58 (.invokestatic 56) 3 61 := ⟨by decide +kernel, rfl⟩
theorem d_d_residue_61 : DD b_d_residue 61 (.aload_n 0) 1 62 := ⟨by decide +kernel, rfl⟩
theorem d_d_residue_62 : DD b_d_residue 62 (.getfield 28) 3 65 := ⟨by decide +kernel, rfl⟩
theorem d_d_residue_65 : DD b_d_residue 65 (.aload 6) 2 67 := ⟨by decide +kernel, rfl⟩
theorem d_d_residue_67 : DD b_d_residue 67 (.aload 8) 2 69 := ⟨by decide +kernel, rfl⟩
theorem d_d_residue_69 : DD b_d_residue 69 (.aload_n 0) 1 70 := ⟨by decide +kernel, rfl⟩
theorem d_d_residue_70 : DD b_d_residue 70 (.getfield 31) 3 73 := ⟨by decide +kernel, rfl⟩
theorem d_d_residue_73 : DD b_d_residue 73 (.aload_n 0) 1 74 := ⟨by decide +kernel, rfl⟩
theorem d_d_residue_74 : DD b_d_residue 74 (.getfield 25) 3 77 := ⟨by decide +kernel, rfl⟩
theorem d_d_residue_77 : DD b_d_residue 77 (.invokevirtual 109) 3 80 := ⟨by decide +kernel, rfl⟩
theorem d_d_residue_80 : DD b_d_residue 80 (.aload_n 0) 1 81 := ⟨by decide +kernel, rfl⟩
theorem d_d_residue_81 : DD b_d_residue 81 (.getfield 22) 3 84 := ⟨by decide +kernel, rfl⟩
theorem d_d_residue_84 : DD b_d_residue 84 (.lconst 1) 1 85 := ⟨by decide +kernel, rfl⟩
theorem d_d_residue_85 : DD b_d_residue 85 (.invokevirtual 67) 3 88 := ⟨by decide +kernel, rfl⟩
theorem d_d_residue_88 : DD b_d_residue 88 (.aload_n 0) 1 89 := ⟨by decide +kernel, rfl⟩
theorem d_d_residue_89 : DD b_d_residue 89 (.getfield 18) 3 92 := ⟨by decide +kernel, rfl⟩
theorem d_d_residue_92 : DD b_d_residue 92 (.aload_n 0) 1 93 := ⟨by decide +kernel, rfl⟩
theorem d_d_residue_93 : DD b_d_residue 93 (.getfield 22) 3 96 := ⟨by decide +kernel, rfl⟩
theorem d_d_residue_96 : DD b_d_residue 96 (.invokevirtual 59) 3 99 := ⟨by decide +kernel, rfl⟩
theorem d_d_residue_99 : DD b_d_residue 99 (.aload_n 0) 1 100 := ⟨by decide +kernel, rfl⟩
theorem d_d_residue_100 : DD b_d_residue 100 (.getfield 28) 3 103 := ⟨by decide +kernel, rfl⟩
theorem d_d_residue_103 : DD b_d_residue 103 (.aload_n 0) 1 104 := ⟨by decide +kernel, rfl⟩
theorem d_d_residue_104 : DD b_d_residue 104 (.getfield 18) 3 107 := ⟨by decide +kernel, rfl⟩
theorem d_d_residue_107 : DD b_d_residue 107 (.aload 8) 2 109 := ⟨by decide +kernel, rfl⟩
theorem d_d_residue_109 : DD b_d_residue 109 (.aload_n 0) 1 110 := ⟨by decide +kernel, rfl⟩
theorem d_d_residue_110 : DD b_d_residue 110 (.getfield 22) 3 113 := ⟨by decide +kernel, rfl⟩
theorem d_d_residue_113 : DD b_d_residue 113 (.aload_n 0) 1 114 := ⟨by decide +kernel, rfl⟩
theorem d_d_residue_114 : DD b_d_residue 114 (.getfield 25) 3 117 := ⟨by decide +kernel, rfl⟩
theorem d_d_residue_117 : DD b_d_residue 117 (.invokevirtual 109) 3 120 := ⟨by decide +kernel, rfl⟩
theorem d_d_residue_120 : DD b_d_residue 120 (.aload 7) 2 122 := ⟨by decide +kernel, rfl⟩
theorem d_d_residue_122 : DD b_d_residue 122 (.invokevirtual 52) 3 125 := ⟨by decide +kernel, rfl⟩
theorem d_d_residue_125 : DD b_d_residue 125 (.iconst 1) 1 126 := ⟨by decide +kernel, rfl⟩
theorem d_d_residue_126 : DD b_d_residue 126 .isub 1 127 := ⟨by decide +kernel, rfl⟩
theorem d_d_residue_127 : DD b_d_residue 127 (.istore 9) 2 129 := ⟨by decide +kernel, rfl⟩
theorem d_d_residue_129 : DD b_d_residue 129 (.iload 9) 2 131 := ⟨by decide +kernel, rfl⟩
theorem d_d_residue_131 : DB b_d_residue 131 (.ifCond .lt 104) 104 134 235 := ⟨by decide +kernel, rfl, rfl⟩
theorem d_d_residue_134 : DD b_d_residue 134 (.aload_n 0) 1 135 := ⟨by decide +kernel, rfl⟩
theorem d_d_residue_135 : DD b_d_residue 135 (.getfield 18) 3 138 := ⟨by decide +kernel, rfl⟩
theorem d_d_residue_138 : DD b_d_residue 138 (.aload_n 0) 1 139 := ⟨by decide +kernel, rfl⟩
theorem d_d_residue_139 : DD b_d_residue 139 (.getfield 22) 3 142 := ⟨by decide +kernel, rfl⟩
theorem d_d_residue_142 : DD b_d_residue 142 (.aload_n 0) 1 143 := ⟨by decide +kernel, rfl⟩
theorem d_d_residue_143 : DD b_d_residue 143 (.getfield 22) 3 146 := ⟨by decide +kernel, rfl⟩
theorem d_d_residue_146 : DD b_d_residue 146 (.invokevirtual 106) 3 149 := ⟨by decide +kernel, rfl⟩
theorem d_d_residue_149 : DD b_d_residue 149 (.aload_n 0) 1 150 := ⟨by decide +kernel, rfl⟩
theorem d_d_residue_150 : DD b_d_residue 150 (.getfield 28) 3 153 := ⟨by decide +kernel, rfl⟩
theorem d_d_residue_153 : DD b_d_residue 153 (.aload_n 0) 1 154 := ⟨by decide +kernel, rfl⟩
theorem d_d_residue_154 : DD b_d_residue 154 (.getfield 18) 3 157 := ⟨by decide +kernel, rfl⟩
theorem d_d_residue_157 : DD b_d_residue 157 (.aload 8) 2 159 := ⟨by decide +kernel, rfl⟩
theorem d_d_residue_159 : DD b_d_residue 159 (.aload_n 0) 1 160 := ⟨by decide +kernel, rfl⟩
theorem d_d_residue_160 : DD b_d_residue 160 (.getfield 22) 3 163 := ⟨by decide +kernel, rfl⟩
theorem d_d_residue_163 : DD b_d_residue 163 (.aload_n 0) 1 164 := ⟨by decide +kernel, rfl⟩
theorem d_d_residue_164 : DD b_d_residue 164 (.getfield 25) 3 167 := ⟨by decide +kernel, rfl⟩
theorem d_d_residue_167 : DD b_d_residue 167 (.invokevirtual 109) 3 170 := ⟨by decide +kernel, rfl⟩
theorem d_d_residue_170 : DD b_d_residue 170 (.aload 7) 2 172 := ⟨by decide +kernel, rfl⟩
theorem d_d_residue_172 : DD b_d_residue 172 (.getfield 131) 3 175 := ⟨by decide +kernel, rfl⟩
theorem d_d_residue_175 : DD b_d_residue 175 (.iload 9) 2 177 := ⟨by decide +kernel, rfl⟩
theorem d_d_residue_177 : DD b_d_residue 177 (.bipush 24) 2 179 := ⟨by decide +kernel, rfl⟩
theorem d_d_residue_179 : DD b_d_residue 179 .idiv 1 180 := ⟨by decide +kernel, rfl⟩
theorem d_d_residue_180 : DD b_d_residue 180 .iaload 1 181 := ⟨by decide +kernel, rfl⟩
theorem d_d_residue_181 : DD b_d_residue 181 (.iload 9) 2 183 := ⟨by decide +kernel, rfl⟩
theorem d_d_residue_183 : DD b_d_residue 183 (.bipush 24) 2 185 := ⟨by decide +kernel, rfl⟩
theorem d_d_residue_185 : DD b_d_residue 185 .irem 1 186 := ⟨by decide +kernel, rfl⟩
theorem d_d_residue_186 : DD b_d_residue 186 .ishr 1 187 := ⟨by decide +kernel, rfl⟩
theorem d_d_residue_187 : DD b_d_residue 187 (.iconst 1) 1 188 := ⟨by decide +kernel, rfl⟩
theorem d_d_residue_188 : DD b_d_residue 188 .iand 1 189 := ⟨by decide +kernel, rfl⟩
theorem d_d_residue_189 : DD b_d_residue 189 (.iconst 1) 1 190 := ⟨by decide +kernel, rfl⟩
theorem d_d_residue_190 : DB b_d_residue 190 (.if_icmp .ne 39) 39 193 229 := ⟨by decide +kernel, rfl, rfl⟩
theorem d_d_residue_193 : DD b_d_residue 193 (.aload_n 0) 1 194 := ⟨by decide +kernel, rfl⟩
theorem d_d_residue_194 : DD b_d_residue 194 (.getfield 18) 3 197 := ⟨by decide +kernel, rfl⟩
theorem d_d_residue_197 : DD b_d_residue 197 (.aload_n 0) 1 198 := ⟨by decide +kernel, rfl⟩
theorem d_d_residue_198 : DD b_d_residue 198 (.getfield 22) 3 201 := ⟨by decide +kernel, rfl⟩
theorem d_d_residue_201 : DD b_d_residue 201 (.aload_n 0) 1 202 := ⟨by decide +kernel, rfl⟩
theorem d_d_residue_202 : DD b_d_residue 202 (.getfield 31) 3 205 := ⟨by decide +kernel, rfl⟩
theorem d_d_residue_205 : DD b_d_residue 205 (.invokevirtual 106) 3 208 := ⟨by decide +kernel, rfl⟩
theorem d_d_residue_208 : DD b_d_residue 208 (.aload_n 0) 1 209 := ⟨by decide +kernel, rfl⟩
theorem d_d_residue_209 : DD b_d_residue 209 (.getfield 28) 3 212 := ⟨by decide +kernel, rfl⟩
theorem d_d_residue_212 : DD b_d_residue 212 (.aload_n 0) 1 213 := ⟨by decide +kernel, rfl⟩
theorem d_d_residue_213 : DD b_d_residue 213 (.getfield 18) 3 216 := ⟨by decide +kernel, rfl⟩
theorem d_d_residue_216 : DD b_d_residue 216 (.aload 8) 2 218 := ⟨by decide +kernel, rfl⟩
theorem d_d_residue_218 : DD b_d_residue 218 (.aload_n 0) 1 219 := ⟨by decide +kernel, rfl⟩
theorem d_d_residue_219 : DD b_d_residue 219 (.getfield 22) 3 222 := ⟨by decide +kernel, rfl⟩
theorem d_d_residue_222 : DD b_d_residue 222 (.aload_n 0) 1 223 := ⟨by decide +kernel, rfl⟩
theorem d_d_residue_223 : DD b_d_residue 223 (.getfield 25) 3 226 := ⟨by decide +kernel, rfl⟩
theorem d_d_residue_226 : DD b_d_residue 226 (.invokevirtual 109) 3 229 := ⟨by decide +kernel, rfl⟩
theorem d_d_residue_229 : DD b_d_residue 229 (.iinc 9 (-1)) 3 232 := ⟨by decide +kernel, rfl⟩
theorem d_d_residue_232 : DB b_d_residue 232 (.goto (-103)) (-103) 235 129 := ⟨by decide +kernel, rfl, rfl⟩
theorem d_d_residue_235 : DD b_d_residue 235 (.aload 5) 2 237 := ⟨by decide +kernel, rfl⟩
theorem d_d_residue_237 : DD b_d_residue 237 (.aload_n 0) 1 238 := ⟨by decide +kernel, rfl⟩
theorem d_d_residue_238 : DD b_d_residue 238 (.getfield 22) 3 241 := ⟨by decide +kernel, rfl⟩
theorem d_d_residue_241 : DD b_d_residue 241 (.invokevirtual 59) 3 244 := ⟨by decide +kernel, rfl⟩
theorem d_d_residue_244 : DD b_d_residue 244 (.aload 5) 2 246 := ⟨by decide +kernel, rfl⟩
theorem d_d_residue_246 : DD b_d_residue 246 (.getfield 88) 3 249 := ⟨by decide +kernel, rfl⟩
theorem d_d_residue_249 : DD b_d_residue 249 .ireturn 1 250 := ⟨by decide +kernel, rfl⟩
set_option maxRecDepth 20000 in
set_option maxHeartbeats 4000000 in
theorem c_d_residue (l : Launch) (G : ZG) (htl : l.stackTraces = false) {p0 p1 p2 p3 : Int} {σ : Mem} {K : Int → Mem → Prop} {X : Int → Mem → Prop} (h : wp_d_residue p0 p1 p2 p3 σ K X) (h_p0 : okI p0) (h_p1 : okI p1) (h_p2 : okI p2) (h_p3 : okI p3) : Ct l G y_d_residue (.code y_d_residue b_d_residue 10 (some .int)) { frames := 8, cells := 1, slots := 6, locals := 141 } 0 0 1 [.ref (zA G 42), .int (iI p0), .int (iI p1), .int (iI p2), .int (iI p3)] σ K X := by
  unfold wp_d_residue at h
  refine Ct.ofZ [(0, .ref (zA G 42)), (1, .int (iI p0)), (2, .int (iI p1)), (3, .int (iI p2)), (4, .int (iI p3))] "LimbDesk" (by decide) rfl (Nat.le_of_ble_eq_true rfl) rfl ?_
  intro E hR hlE C hr hX
  subst hlE
  have hroom_d_at : 7 + 1 ≤ (zR E).frames ∧ 8 + (2 + 11) + 120 ≤ (zR E).locals ∧ 0 + 1 ≤ (zR E).cells ∧ 0 + 6 ≤ (zR E).slots := by rw [hR]; decide
  have hroom_d_fits : 6 + 1 ≤ (zR E).frames ∧ 8 + (1 + 11) + 100 ≤ (zR E).locals ∧ 0 + 1 ≤ (zR E).cells ∧ 0 + 6 ≤ (zR E).slots := by rw [hR]; decide
  have hroom_d_good : 6 + 1 ≤ (zR E).frames ∧ 8 + (1 + 11) + 100 ≤ (zR E).locals ∧ 0 + 1 ≤ (zR E).cells ∧ 0 + 6 ≤ (zR E).slots := by rw [hR]; decide
  have hroom_n_bits : 1 + 1 ≤ (zR E).frames ∧ 8 + (1 + 11) + 21 ≤ (zR E).locals ∧ 0 + 0 ≤ (zR E).cells ∧ 0 + 0 ≤ (zR E).slots := by rw [hR]; decide
  have hroom_n_floor : 3 + 1 ≤ (zR E).frames ∧ 8 + (5 + 11) + 83 ≤ (zR E).locals ∧ 0 + 0 ≤ (zR E).cells ∧ 0 + 0 ≤ (zR E).slots := by rw [hR]; decide
  have hroom_n_product : 1 + 1 ≤ (zR E).frames ∧ 8 + (12 + 11) + 22 ≤ (zR E).locals ∧ 0 + 0 ≤ (zR E).cells ∧ 0 + 0 ≤ (zR E).slots := by rw [hR]; decide
  have hroom_n_set : 1 + 1 ≤ (zR E).frames ∧ 8 + (6 + 11) + 22 ≤ (zR E).locals ∧ 0 + 0 ≤ (zR E).cells ∧ 0 + 0 ≤ (zR E).slots := by rw [hR]; decide
  have hroom_n_take : 0 + 1 ≤ (zR E).frames ∧ 8 + (3 + 11) + 0 ≤ (zR E).locals ∧ 0 + 0 ≤ (zR E).cells ∧ 0 + 0 ≤ (zR E).slots := by rw [hR]; decide
  clear hR
  obtain ⟨Q, hQ⟩ : ∃ Q, Q = MQX G (zb E) 1 K X (zs E) 0 0 1 6 := ⟨_, rfl⟩
  show Z E G 10 0 0 (MQX G (zb E) 1 K X (zs E) 0 0 1 6) σ 0 [(0, .ref (zA G 42)), (1, .int (iI p0)), (2, .int (iI p1)), (3, .int (iI p2)), (4, .int (iI p3))] []
  rw [← hQ]
  refine z_aload_n C 0 d_d_residue_0 rfl ?_
  refine z_iload_n C 1 d_d_residue_1 rfl ?_
  refine z_callV C "LimbDesk" [.int (iI p0)] [] 1 d_d_residue_2 (c_d_at (zl E) G htl h h_p0) k_80 k_77 k_79 k_s0 k_1 (by decide) (recv_D C) (by decide +kernel) rfl rfl (Nat.le_of_ble_eq_true rfl) hroom_d_at (fun r1 _s64 ok2 hq => ?_) (fun kx σx hx => by subst hQ; exact zt_leave C hX ⟨by decide, by decide⟩ hx)
  obtain ⟨hs_, hk_⟩ := hq
  subst hs_
  have h := hk_
  refine z_astore C [(5, .ref (zA G r1)), (0, .ref (zA G 42)), (1, .int (iI p0)), (2, .int (iI p1)), (3, .int (iI p2)), (4, .int (iI p3))] d_d_residue_5 (by decide) rfl ?_
  refine z_aload_n C 1 d_d_residue_7 rfl ?_
  refine z_iload_n C 3 d_d_residue_8 rfl ?_
  refine z_callV C "LimbDesk" [.int (iI p1)] [] 1 d_d_residue_9 (c_d_at (zl E) G htl h h_p1) k_80 k_77 k_79 k_s0 k_1 (by decide) (recv_D C) (by decide +kernel) rfl rfl (Nat.le_of_ble_eq_true rfl) hroom_d_at (fun r3 _s63 ok4 hq => ?_) (fun kx σx hx => by subst hQ; exact zt_leave C hX ⟨by decide, by decide⟩ hx)
  obtain ⟨hs_, hk_⟩ := hq
  subst hs_
  have h := hk_
  refine z_astore C [(6, .ref (zA G r3)), (5, .ref (zA G r1)), (0, .ref (zA G 42)), (1, .int (iI p0)), (2, .int (iI p1)), (3, .int (iI p2)), (4, .int (iI p3))] d_d_residue_12 (by decide) rfl ?_
  refine z_aload_n C 2 d_d_residue_14 rfl ?_
  refine z_iload_n C 5 d_d_residue_15 rfl ?_
  refine z_callV C "LimbDesk" [.int (iI p2)] [] 1 d_d_residue_16 (c_d_at (zl E) G htl h h_p2) k_80 k_77 k_79 k_s0 k_1 (by decide) (recv_D C) (by decide +kernel) rfl rfl (Nat.le_of_ble_eq_true rfl) hroom_d_at (fun r5 _s62 ok6 hq => ?_) (fun kx σx hx => by subst hQ; exact zt_leave C hX ⟨by decide, by decide⟩ hx)
  obtain ⟨hs_, hk_⟩ := hq
  subst hs_
  have h := hk_
  refine z_astore C [(7, .ref (zA G r5)), (6, .ref (zA G r3)), (5, .ref (zA G r1)), (0, .ref (zA G 42)), (1, .int (iI p0)), (2, .int (iI p1)), (3, .int (iI p2)), (4, .int (iI p3))] d_d_residue_19 (by decide) rfl ?_
  refine z_aload_n C 3 d_d_residue_21 rfl ?_
  refine z_iload C 7 d_d_residue_22 rfl ?_
  refine z_callV C "LimbDesk" [.int (iI p3)] [] 1 d_d_residue_24 (c_d_at (zl E) G htl h h_p3) k_80 k_77 k_79 k_s0 k_1 (by decide) (recv_D C) (by decide +kernel) rfl rfl (Nat.le_of_ble_eq_true rfl) hroom_d_at (fun r7 _s61 ok8 hq => ?_) (fun kx σx hx => by subst hQ; exact zt_leave C hX ⟨by decide, by decide⟩ hx)
  obtain ⟨hs_, hk_⟩ := hq
  subst hs_
  have h := hk_
  refine z_astore C [(8, .ref (zA G r7)), (7, .ref (zA G r5)), (6, .ref (zA G r3)), (5, .ref (zA G r1)), (0, .ref (zA G 42)), (1, .int (iI p0)), (2, .int (iI p1)), (3, .int (iI p2)), (4, .int (iI p3))] d_d_residue_27 (by decide) rfl ?_
  refine z_aload C 1 d_d_residue_29 rfl ?_
  refine z_nget_sign C d_d_residue_31 k_34 ok6 ?_
  obtain ⟨ok9, h⟩ := h
  have hj : ∀ s11 : Int, s11 = (if (σ r5 2) < 0 then 0 else 1) → Z E G 10 0 0 Q σ 42 [(8, .ref (zA G r7)), (7, .ref (zA G r5)), (6, .ref (zA G r3)), (5, .ref (zA G r1)), (0, .ref (zA G 42)), (1, .int (iI p0)), (2, .int (iI p1)), (3, .int (iI p2)), (4, .int (iI p3))] [.int (iI s11)] := by
    intro s11 e12
    have h := h s11 e12
    have ok13 : okI s11 := by rw [e12]; split; exact (okI_lit rfl); exact (okI_lit rfl)
    refine z_callS C [.int (iI s11)] [] 1 d_d_residue_42 (c_d_good (zl E) G htl h ok13) k_86 k_84 k_85 k_1 (by decide)  (by decide +kernel) rfl rfl (Nat.le_of_ble_eq_true rfl) hroom_d_good (fun _r _s60 ok14 hq => ?_) (fun kx σx hx => by subst hQ; exact zt_leave C hX ⟨by decide, by decide⟩ hx)
    obtain ⟨hs_, hk_⟩ := hq
    subst hs_
    have h := hk_
    refine z_aload C 0 d_d_residue_45 rfl ?_
    refine z_nget_sign C d_d_residue_47 k_34 ok8 ?_
    obtain ⟨ok15, h⟩ := h
    have hj : ∀ s17 : Int, s17 = (if (σ r7 2) = 0 then 0 else 1) → Z E G 10 0 0 Q σ 58 [(8, .ref (zA G r7)), (7, .ref (zA G r5)), (6, .ref (zA G r3)), (5, .ref (zA G r1)), (0, .ref (zA G 42)), (1, .int (iI p0)), (2, .int (iI p1)), (3, .int (iI p2)), (4, .int (iI p3))] [.int (iI s17)] := by
      intro s17 e18
      have h := h s17 e18
      have ok19 : okI s17 := by rw [e18]; split; exact (okI_lit rfl); exact (okI_lit rfl)
      refine z_callS C [.int (iI s17)] [] 1 d_d_residue_58 (c_d_fits (zl E) G htl h ok19) k_250 k_248 k_249 k_1 (by decide)  (by decide +kernel) rfl rfl (Nat.le_of_ble_eq_true rfl) hroom_d_fits (fun _r _s59 ok20 hq => ?_) (fun kx σx hx => by subst hQ; exact zt_leave C hX ⟨by decide, by decide⟩ hx)
      obtain ⟨hs_, hk_⟩ := hq
      subst hs_
      have h := hk_
      refine z_aload_n C 4 d_d_residue_61 rfl ?_
      refine z_dget C 4 d_d_residue_62 (by decide) k_47 rfl rfl ?_
      refine z_aload C 2 d_d_residue_65 rfl ?_
      refine z_aload C 0 d_d_residue_67 rfl ?_
      refine z_aload_n C 4 d_d_residue_69 rfl ?_
      refine z_dget C 5 d_d_residue_70 (by decide) k_48 rfl rfl ?_
      refine z_aload_n C 4 d_d_residue_73 rfl ?_
      refine z_dget C 3 d_d_residue_74 (by decide) k_46 rfl rfl ?_
      refine z_callV C "LimbDesk$Num" [.ref (zA G r3), .ref (zA G r7), .ref (zA G 20), .ref (zA G 18)] [] 4 d_d_residue_77 (c_n_floor (zl E) G h ⟨by decide, by decide⟩ ok4 ok8 ⟨by decide, by decide⟩ ⟨by decide, by decide⟩) k_327 k_324 k_325 k_326 k_2 (by decide) (recv_N C ⟨by decide, by decide⟩) (by decide +kernel) rfl rfl (Nat.le_of_ble_eq_true rfl) hroom_n_floor (fun _r σ21 ok22 hq => ?_) (fun _ _ hx => hx.elim)
      have h := hq
      refine z_aload_n C 4 d_d_residue_80 rfl ?_
      refine z_dget C 2 d_d_residue_81 (by decide) k_45 rfl rfl ?_
      refine z_lconst C d_d_residue_84 ?_
      refine z_callV C "LimbDesk$Num" [.long (lL 1)] [] 1 d_d_residue_85 (c_n_set (zl E) G h ⟨by decide, by decide⟩ (okL_lit rfl)) k_163 k_160 k_161 k_162 k_2 (by decide) (recv_N C ⟨by decide, by decide⟩) (by decide +kernel) rfl rfl (Nat.le_of_ble_eq_true rfl) hroom_n_set (fun _r σ23 ok24 hq => ?_) (fun _ _ hx => hx.elim)
      have h := hq
      refine z_aload_n C 4 d_d_residue_88 rfl ?_
      refine z_dget C 1 d_d_residue_89 (by decide) k_44 rfl rfl ?_
      refine z_aload_n C 4 d_d_residue_92 rfl ?_
      refine z_dget C 2 d_d_residue_93 (by decide) k_45 rfl rfl ?_
      refine z_callV C "LimbDesk$Num" [.ref (zA G 17)] [] 1 d_d_residue_96 (c_n_take (zl E) G h ⟨by decide, by decide⟩ ⟨by decide, by decide⟩) k_269 k_266 k_267 k_268 k_2 (by decide) (recv_N C ⟨by decide, by decide⟩) (by decide +kernel) rfl rfl (Nat.le_of_ble_eq_true rfl) hroom_n_take (fun _r σ25 ok26 hq => ?_) (fun _ _ hx => hx.elim)
      have h := hq
      refine z_aload_n C 4 d_d_residue_99 rfl ?_
      refine z_dget C 4 d_d_residue_100 (by decide) k_47 rfl rfl ?_
      refine z_aload_n C 4 d_d_residue_103 rfl ?_
      refine z_dget C 1 d_d_residue_104 (by decide) k_44 rfl rfl ?_
      refine z_aload C 0 d_d_residue_107 rfl ?_
      refine z_aload_n C 4 d_d_residue_109 rfl ?_
      refine z_dget C 2 d_d_residue_110 (by decide) k_45 rfl rfl ?_
      refine z_aload_n C 4 d_d_residue_113 rfl ?_
      refine z_dget C 3 d_d_residue_114 (by decide) k_46 rfl rfl ?_
      refine z_callV C "LimbDesk$Num" [.ref (zA G 16), .ref (zA G r7), .ref (zA G 17), .ref (zA G 18)] [] 4 d_d_residue_117 (c_n_floor (zl E) G h ⟨by decide, by decide⟩ ⟨by decide, by decide⟩ ok8 ⟨by decide, by decide⟩ ⟨by decide, by decide⟩) k_327 k_324 k_325 k_326 k_2 (by decide) (recv_N C ⟨by decide, by decide⟩) (by decide +kernel) rfl rfl (Nat.le_of_ble_eq_true rfl) hroom_n_floor (fun _r σ27 ok28 hq => ?_) (fun _ _ hx => hx.elim)
      have h := hq
      refine z_aload C 1 d_d_residue_120 rfl ?_
      refine z_callV C "LimbDesk$Num" [] [] 0 d_d_residue_122 (c_n_bits (zl E) G h ok6) k_155 k_152 k_153 k_154 k_2 (by decide) (recv_N C ok6) (by decide +kernel) rfl rfl (Nat.le_of_ble_eq_true rfl) hroom_n_bits (fun r29 _s58 ok30 hq => ?_) (fun _ _ hx => hx.elim)
      obtain ⟨hs_, hk_⟩ := hq
      subst hs_
      have h := hk_
      refine z_iconst C d_d_residue_125 ?_
      refine z_isub C d_d_residue_126 ?_
      refine z_namei (fun v9_31 e32 => ?_)
      have h := h v9_31 e32
      refine z_istore C [(9, .int (iI v9_31)), (8, .ref (zA G r7)), (7, .ref (zA G r5)), (6, .ref (zA G r3)), (5, .ref (zA G r1)), (0, .ref (zA G 42)), (1, .int (iI p0)), (2, .int (iI p1)), (3, .int (iI p2)), (4, .int (iI p3))] d_d_residue_127 (by decide) rfl ?_
      obtain ⟨ok34, h⟩ := h
      refine z_sub [(0, .ref (zA G 42)), (5, .ref (zA G r1)), (7, .ref (zA G r5)), (8, .ref (zA G r7)), (9, .int (iI v9_31))] [5, 4, 2, 1, 0] rfl ?_
      refine (Lo1.walk (P := fun v9_33 σ35 => okI v9_33 → Z E G 10 0 0 Q σ35 129 [(0, .ref (zA G 42)), (5, .ref (zA G r1)), (7, .ref (zA G r5)), (8, .ref (zA G r7)), (9, .int (iI v9_33))] []) ?_ h) ok34
      intro v9_33 σ35 again37 Hagain37 h ok36
      refine z_iload C 4 d_d_residue_129 rfl ?_
      refine z_if_lt C d_d_residue_131 ok36 (fun hb38 => ?_) (fun hb38 => ?_)
      · have h := h.1 hb38
        refine z_aload C 1 d_d_residue_235 rfl ?_
        refine z_aload_n C 0 d_d_residue_237 rfl ?_
        refine z_dget C 2 d_d_residue_238 (by decide) k_45 rfl rfl ?_
        refine z_callV C "LimbDesk$Num" [.ref (zA G 17)] [] 1 d_d_residue_241 (c_n_take (zl E) G h ok2 ⟨by decide, by decide⟩) k_269 k_266 k_267 k_268 k_2 (by decide) (recv_N C ok2) (by decide +kernel) rfl rfl (Nat.le_of_ble_eq_true rfl) hroom_n_take (fun _r σ39 ok40 hq => ?_) (fun _ _ hx => hx.elim)
        have h := hq
        refine z_aload C 1 d_d_residue_244 rfl ?_
        refine z_nget_sign C d_d_residue_246 k_34 ok2 ?_
        obtain ⟨ok41, h⟩ := h
        subst hQ
        exact z_ireturn C d_d_residue_249.1 hr ⟨Nat.zero_le _, Nat.zero_le _⟩ ok41 h
      · have h := h.2 hb38
        refine z_aload_n C 0 d_d_residue_134 rfl ?_
        refine z_dget C 1 d_d_residue_135 (by decide) k_44 rfl rfl ?_
        refine z_aload_n C 0 d_d_residue_138 rfl ?_
        refine z_dget C 2 d_d_residue_139 (by decide) k_45 rfl rfl ?_
        refine z_aload_n C 0 d_d_residue_142 rfl ?_
        refine z_dget C 2 d_d_residue_143 (by decide) k_45 rfl rfl ?_
        refine z_callV C "LimbDesk$Num" [.ref (zA G 17), .ref (zA G 17)] [] 2 d_d_residue_146 (c_n_product (zl E) G h ⟨by decide, by decide⟩ ⟨by decide, by decide⟩ ⟨by decide, by decide⟩) k_316 k_313 k_314 k_315 k_2 (by decide) (recv_N C ⟨by decide, by decide⟩) (by decide +kernel) rfl rfl (Nat.le_of_ble_eq_true rfl) hroom_n_product (fun _r σ42 ok43 hq => ?_) (fun _ _ hx => hx.elim)
        have h := hq
        refine z_aload_n C 0 d_d_residue_149 rfl ?_
        refine z_dget C 4 d_d_residue_150 (by decide) k_47 rfl rfl ?_
        refine z_aload_n C 0 d_d_residue_153 rfl ?_
        refine z_dget C 1 d_d_residue_154 (by decide) k_44 rfl rfl ?_
        refine z_aload C 3 d_d_residue_157 rfl ?_
        refine z_aload_n C 0 d_d_residue_159 rfl ?_
        refine z_dget C 2 d_d_residue_160 (by decide) k_45 rfl rfl ?_
        refine z_aload_n C 0 d_d_residue_163 rfl ?_
        refine z_dget C 3 d_d_residue_164 (by decide) k_46 rfl rfl ?_
        refine z_callV C "LimbDesk$Num" [.ref (zA G 16), .ref (zA G r7), .ref (zA G 17), .ref (zA G 18)] [] 4 d_d_residue_167 (c_n_floor (zl E) G h ⟨by decide, by decide⟩ ⟨by decide, by decide⟩ ok8 ⟨by decide, by decide⟩ ⟨by decide, by decide⟩) k_327 k_324 k_325 k_326 k_2 (by decide) (recv_N C ⟨by decide, by decide⟩) (by decide +kernel) rfl rfl (Nat.le_of_ble_eq_true rfl) hroom_n_floor (fun _r σ44 ok45 hq => ?_) (fun _ _ hx => hx.elim)
        have h := hq
        refine z_aload C 2 d_d_residue_170 rfl ?_
        refine z_nget_d C d_d_residue_172 k_31 ok6 ?_
        refine z_iload C 4 d_d_residue_175 rfl ?_
        refine z_bipush C d_d_residue_177 (by decide) ?_
        obtain ⟨hc46, h⟩ := h
        refine z_idiv C d_d_residue_179 hc46 ⟨by decide, by decide⟩ ?_
        obtain ⟨hc47, h⟩ := h
        refine z_ialdN C (600) d_d_residue_180 (isN.A ok6) (ln_num ok6) hc47 ?_
        refine z_iload C 4 d_d_residue_181 rfl ?_
        refine z_bipush C d_d_residue_183 (by decide) ?_
        refine z_irem C d_d_residue_185 hc46 ⟨by decide, by decide⟩ ?_
        obtain ⟨hc48, h⟩ := h
        obtain ⟨ok49, h⟩ := h
        refine z_ishr C d_d_residue_186 ok49 hc48 ?_
        refine z_iconst C d_d_residue_187 ?_
        refine z_imask C 1 2 d_d_residue_188 (by decide) (by decide) (by decide) ?_
        refine z_iconst C d_d_residue_189 ?_
        refine Jo0.walk (fun σ50 => Z E G 10 0 0 Q σ50 229 [(0, .ref (zA G 42)), (5, .ref (zA G r1)), (7, .ref (zA G r5)), (8, .ref (zA G r7)), (9, .int (iI v9_33))] []) h ?_ ?_
        · intro σ50 h
          refine z_iinc C 4 [(9, .int (iI (v9_33 + (-1)))), (0, .ref (zA G 42)), (5, .ref (zA G r1)), (7, .ref (zA G r5)), (8, .ref (zA G r7))] d_d_residue_229 rfl (by decide) rfl ?_
          refine z_goto C d_d_residue_232 ?_
          obtain ⟨ok52, h⟩ := h
          refine z_sub [(0, .ref (zA G 42)), (5, .ref (zA G r1)), (7, .ref (zA G r5)), (8, .ref (zA G r7)), (9, .int (iI (v9_33 + (-1))))] [1, 2, 3, 4, 0] rfl ?_
          exact Hagain37 _ _ h ok52
        · intro J51 HJ51 h
          refine z_icmp_ne C d_d_residue_190 (okI_mod (by decide) (by decide)) (okI_lit rfl) (fun hb53 => ?_) (fun hb53 => ?_)
          · have h := h.1 hb53
            refine z_sub [(0, .ref (zA G 42)), (5, .ref (zA G r1)), (7, .ref (zA G r5)), (8, .ref (zA G r7)), (9, .int (iI v9_33))] [0, 1, 2, 3, 4] rfl ?_
            exact HJ51 _ h
          · have h := h.2 hb53
            refine z_aload_n C 0 d_d_residue_193 rfl ?_
            refine z_dget C 1 d_d_residue_194 (by decide) k_44 rfl rfl ?_
            refine z_aload_n C 0 d_d_residue_197 rfl ?_
            refine z_dget C 2 d_d_residue_198 (by decide) k_45 rfl rfl ?_
            refine z_aload_n C 0 d_d_residue_201 rfl ?_
            refine z_dget C 5 d_d_residue_202 (by decide) k_48 rfl rfl ?_
            refine z_callV C "LimbDesk$Num" [.ref (zA G 17), .ref (zA G 20)] [] 2 d_d_residue_205 (c_n_product (zl E) G h ⟨by decide, by decide⟩ ⟨by decide, by decide⟩ ⟨by decide, by decide⟩) k_316 k_313 k_314 k_315 k_2 (by decide) (recv_N C ⟨by decide, by decide⟩) (by decide +kernel) rfl rfl (Nat.le_of_ble_eq_true rfl) hroom_n_product (fun _r σ54 ok55 hq => ?_) (fun _ _ hx => hx.elim)
            have h := hq
            refine z_aload_n C 0 d_d_residue_208 rfl ?_
            refine z_dget C 4 d_d_residue_209 (by decide) k_47 rfl rfl ?_
            refine z_aload_n C 0 d_d_residue_212 rfl ?_
            refine z_dget C 1 d_d_residue_213 (by decide) k_44 rfl rfl ?_
            refine z_aload C 3 d_d_residue_216 rfl ?_
            refine z_aload_n C 0 d_d_residue_218 rfl ?_
            refine z_dget C 2 d_d_residue_219 (by decide) k_45 rfl rfl ?_
            refine z_aload_n C 0 d_d_residue_222 rfl ?_
            refine z_dget C 3 d_d_residue_223 (by decide) k_46 rfl rfl ?_
            refine z_callV C "LimbDesk$Num" [.ref (zA G 16), .ref (zA G r7), .ref (zA G 17), .ref (zA G 18)] [] 4 d_d_residue_226 (c_n_floor (zl E) G h ⟨by decide, by decide⟩ ⟨by decide, by decide⟩ ok8 ⟨by decide, by decide⟩ ⟨by decide, by decide⟩) k_327 k_324 k_325 k_326 k_2 (by decide) (recv_N C ⟨by decide, by decide⟩) (by decide +kernel) rfl rfl (Nat.le_of_ble_eq_true rfl) hroom_n_floor (fun _r σ56 ok57 hq => ?_) (fun _ _ hx => hx.elim)
            have h := hq
            refine z_sub [(0, .ref (zA G 42)), (5, .ref (zA G r1)), (7, .ref (zA G r5)), (8, .ref (zA G r7)), (9, .int (iI v9_33))] [0, 1, 2, 3, 4] rfl ?_
            exact HJ51 _ h
    clear h
    refine z_if_eq C d_d_residue_50 ok15 (fun hb16 => ?_) (fun hb16 => ?_)
    · refine z_iconst C d_d_residue_57 ?_
      exact hj _ (if_pos hb16).symm
    · refine z_iconst C d_d_residue_53 ?_
      refine z_goto C d_d_residue_54 ?_
      exact hj _ (if_neg hb16).symm
  clear h
  refine z_if_lt C d_d_residue_34 ok9 (fun hb10 => ?_) (fun hb10 => ?_)
  · refine z_iconst C d_d_residue_41 ?_
    exact hj _ (if_pos hb10).symm
  · refine z_iconst C d_d_residue_37 ?_
    refine z_goto C d_d_residue_38 ?_
    exact hj _ (if_neg (Int.not_lt.mpr hb10)).symm
theorem d_d_compare_0 : DD b_d_compare 0 (.aload_n 0) 1 1 := ⟨by decide +kernel, rfl⟩
theorem d_d_compare_1 : DD b_d_compare 1 (.iload_n 1) 1 2 := ⟨by decide +kernel, rfl⟩
theorem d_d_compare_2 : DD b_d_compare 2 (.invokevirtual 63) 3 5 := ⟨by decide +kernel, rfl⟩
theorem d_d_compare_5 : DD b_d_compare 5 (.astore_n 3) 1 6 := ⟨by decide +kernel, rfl⟩
theorem d_d_compare_6 : DD b_d_compare 6 (.aload_n 3) 1 7 := ⟨by decide +kernel, rfl⟩
theorem d_d_compare_7 : DD b_d_compare 7 (.aload_n 0) 1 8 := ⟨by decide +kernel, rfl⟩
theorem d_d_compare_8 : DD b_d_compare 8 (.iload_n 2) 1 9 := ⟨by decide +kernel, rfl⟩
theorem d_d_compare_9 : DD b_d_compare 9 (.invokevirtual 63) 3 12 := ⟨by decide +kernel, rfl⟩
theorem d_d_compare_12 : DD b_d_compare 12 (.invokevirtual 135) 3 15 := ⟨by decide +kernel, rfl⟩
theorem d_d_compare_15 : DD b_d_compare 15 .ireturn 1 16 := ⟨by decide +kernel, rfl⟩
set_option maxRecDepth 20000 in
set_option maxHeartbeats 4000000 in
theorem c_d_compare (l : Launch) (G : ZG) (htl : l.stackTraces = false) {p0 p1 : Int} {σ : Mem} {K : Int → Prop} {X : Int → Mem → Prop} (h : wp_d_compare p0 p1 σ K X) (h_p0 : okI p0) (h_p1 : okI p1) : Ct l G y_d_compare (.code y_d_compare b_d_compare 4 (some .int)) { frames := 8, cells := 1, slots := 6, locals := 141 } 0 0 1 [.ref (zA G 42), .int (iI p0), .int (iI p1)] σ (fun r σ1 => σ = σ1 ∧ K r) X := by
  unfold wp_d_compare at h
  refine Ct.ofZ [(0, .ref (zA G 42)), (1, .int (iI p0)), (2, .int (iI p1))] "LimbDesk" (by decide) rfl (Nat.le_of_ble_eq_true rfl) rfl ?_
  intro E hR hlE C hr hX
  subst hlE
  have hroom_d_at : 7 + 1 ≤ (zR E).frames ∧ 8 + (2 + 11) + 120 ≤ (zR E).locals ∧ 0 + 1 ≤ (zR E).cells ∧ 0 + 6 ≤ (zR E).slots := by rw [hR]; decide
  have hroom_n_compare : 1 + 1 ≤ (zR E).frames ∧ 8 + (2 + 11) + 22 ≤ (zR E).locals ∧ 0 + 0 ≤ (zR E).cells ∧ 0 + 0 ≤ (zR E).slots := by rw [hR]; decide
  clear hR
  obtain ⟨Q, hQ⟩ : ∃ Q, Q = MQX G (zb E) 1 (fun r σ1 => σ = σ1 ∧ K r) X (zs E) 0 0 1 6 := ⟨_, rfl⟩
  show Z E G 4 0 0 (MQX G (zb E) 1 (fun r σ1 => σ = σ1 ∧ K r) X (zs E) 0 0 1 6) σ 0 [(0, .ref (zA G 42)), (1, .int (iI p0)), (2, .int (iI p1))] []
  rw [← hQ]
  refine z_aload_n C 0 d_d_compare_0 rfl ?_
  refine z_iload_n C 1 d_d_compare_1 rfl ?_
  refine z_callV C "LimbDesk" [.int (iI p0)] [] 1 d_d_compare_2 (c_d_at (zl E) G htl h h_p0) k_80 k_77 k_79 k_s0 k_1 (by decide) (recv_D C) (by decide +kernel) rfl rfl (Nat.le_of_ble_eq_true rfl) hroom_d_at (fun r1 _s9 ok2 hq => ?_) (fun kx σx hx => by subst hQ; exact zt_leave C hX ⟨by decide, by decide⟩ hx)
  obtain ⟨hs_, hk_⟩ := hq
  subst hs_
  have h := hk_
  refine z_astore_n C [(3, .ref (zA G r1)), (0, .ref (zA G 42)), (1, .int (iI p0)), (2, .int (iI p1))] d_d_compare_5 (by decide) rfl ?_
  refine z_aload_n C 0 d_d_compare_6 rfl ?_
  refine z_aload_n C 1 d_d_compare_7 rfl ?_
  refine z_iload_n C 3 d_d_compare_8 rfl ?_
  refine z_callV C "LimbDesk" [.int (iI p1)] [.ref (zA G r1)] 1 d_d_compare_9 (c_d_at (zl E) G htl h h_p1) k_80 k_77 k_79 k_s0 k_1 (by decide) (recv_D C) (by decide +kernel) rfl rfl (Nat.le_of_ble_eq_true rfl) hroom_d_at (fun r3 _s8 ok4 hq => ?_) (fun kx σx hx => by subst hQ; exact zt_leave C hX ⟨by decide, by decide⟩ hx)
  obtain ⟨hs_, hk_⟩ := hq
  subst hs_
  have h := hk_
  refine z_callV C "LimbDesk$Num" [.ref (zA G r3)] [] 1 d_d_compare_12 (c_n_compare (zl E) G h ok2 ok4) k_408 k_405 k_406 k_407 k_2 (by decide) (recv_N C ok2) (by decide +kernel) rfl rfl (Nat.le_of_ble_eq_true rfl) hroom_n_compare (fun r5 _s7 ok6 hq => ?_) (fun _ _ hx => hx.elim)
  obtain ⟨hs_, hk_⟩ := hq
  subst hs_
  have h := hk_
  subst hQ
  exact z_ireturn C d_d_compare_15.1 hr ⟨Nat.zero_le _, Nat.zero_le _⟩ ok6 ⟨rfl, h⟩
theorem d_d_small_0 : DD b_d_small 0 (.aload_n 0) 1 1 := ⟨by decide +kernel, rfl⟩
theorem d_d_small_1 : DD b_d_small 1 (.iload_n 1) 1 2 := ⟨by decide +kernel, rfl⟩
theorem d_d_small_2 : DD b_d_small 2 (.invokevirtual 63) 3 5 := ⟨by decide +kernel, rfl⟩
theorem d_d_small_5 : DD b_d_small 5 (.astore_n 2) 1 6 := ⟨by decide +kernel, rfl⟩
theorem d_d_small_6 : DD b_d_small 6 (.aload_n 2) 1 7 := ⟨by decide +kernel, rfl⟩
theorem d_d_small_7 : DD b_d_small 7 (.invokevirtual 139) 3 10 := ⟨by decide +kernel, rfl⟩
theorem d_d_small_10 : DD b_d_small 10 (.invokestatic 56) 3 13 := ⟨by decide +kernel, rfl⟩
theorem d_d_small_13 : DD b_d_small 13 (.aload_n 2) 1 14 := ⟨by decide +kernel, rfl⟩
theorem d_d_small_14 : DD b_d_small 14 (.invokevirtual 142) 3 17 := ⟨by decide +kernel, rfl⟩
theorem d_d_small_17 : DD b_d_small 17 .lreturn 1 18 := ⟨by decide +kernel, rfl⟩
set_option maxRecDepth 20000 in
set_option maxHeartbeats 4000000 in
theorem c_d_small (l : Launch) (G : ZG) (htl : l.stackTraces = false) {p0 : Int} {σ : Mem} {K : Int → Prop} {X : Int → Mem → Prop} (h : wp_d_small p0 σ K X) (h_p0 : okI p0) : Ct l G y_d_small (.code y_d_small b_d_small 3 (some .long)) { frames := 8, cells := 1, slots := 6, locals := 141 } 0 0 2 [.ref (zA G 42), .int (iI p0)] σ (fun r σ1 => σ = σ1 ∧ K r) X := by
  unfold wp_d_small at h
  refine Ct.ofZ [(0, .ref (zA G 42)), (1, .int (iI p0))] "LimbDesk" (by decide) rfl (Nat.le_of_ble_eq_true rfl) rfl ?_
  intro E hR hlE C hr hX
  subst hlE
  have hroom_d_at : 7 + 1 ≤ (zR E).frames ∧ 8 + (2 + 11) + 120 ≤ (zR E).locals ∧ 0 + 1 ≤ (zR E).cells ∧ 0 + 6 ≤ (zR E).slots := by rw [hR]; decide
  have hroom_d_fits : 6 + 1 ≤ (zR E).frames ∧ 8 + (1 + 11) + 100 ≤ (zR E).locals ∧ 0 + 1 ≤ (zR E).cells ∧ 0 + 6 ≤ (zR E).slots := by rw [hR]; decide
  have hroom_n_fits : 2 + 1 ≤ (zR E).frames ∧ 8 + (1 + 11) + 41 ≤ (zR E).locals ∧ 0 + 0 ≤ (zR E).cells ∧ 0 + 0 ≤ (zR E).slots := by rw [hR]; decide
  have hroom_n_small : 1 + 1 ≤ (zR E).frames ∧ 8 + (4 + 11) + 21 ≤ (zR E).locals ∧ 0 + 0 ≤ (zR E).cells ∧ 0 + 0 ≤ (zR E).slots := by rw [hR]; decide
  clear hR
  obtain ⟨Q, hQ⟩ : ∃ Q, Q = MQX G (zb E) 2 (fun r σ1 => σ = σ1 ∧ K r) X (zs E) 0 0 1 6 := ⟨_, rfl⟩
  show Z E G 3 0 0 (MQX G (zb E) 2 (fun r σ1 => σ = σ1 ∧ K r) X (zs E) 0 0 1 6) σ 0 [(0, .ref (zA G 42)), (1, .int (iI p0))] []
  rw [← hQ]
  refine z_aload_n C 0 d_d_small_0 rfl ?_
  refine z_iload_n C 1 d_d_small_1 rfl ?_
  refine z_callV C "LimbDesk" [.int (iI p0)] [] 1 d_d_small_2 (c_d_at (zl E) G htl h h_p0) k_80 k_77 k_79 k_s0 k_1 (by decide) (recv_D C) (by decide +kernel) rfl rfl (Nat.le_of_ble_eq_true rfl) hroom_d_at (fun r1 _s11 ok2 hq => ?_) (fun kx σx hx => by subst hQ; exact zt_leave C hX ⟨by decide, by decide⟩ hx)
  obtain ⟨hs_, hk_⟩ := hq
  subst hs_
  have h := hk_
  refine z_astore_n C [(2, .ref (zA G r1)), (0, .ref (zA G 42)), (1, .int (iI p0))] d_d_small_5 (by decide) rfl ?_
  refine z_aload_n C 0 d_d_small_6 rfl ?_
  refine z_callV C "LimbDesk$Num" [] [] 0 d_d_small_7 (c_n_fits (zl E) G h ok2) k_419 k_416 k_417 k_418 k_2 (by decide) (recv_N C ok2) (by decide +kernel) rfl rfl (Nat.le_of_ble_eq_true rfl) hroom_n_fits (fun r3 _s10 ok4 hq => ?_) (fun _ _ hx => hx.elim)
  obtain ⟨hs_, hk_⟩ := hq
  subst hs_
  have h := hk_
  refine z_callS C [.int (iI r3)] [] 1 d_d_small_10 (c_d_fits (zl E) G htl h (okI_b ok4)) k_250 k_248 k_249 k_1 (by decide)  (by decide +kernel) rfl rfl (Nat.le_of_ble_eq_true rfl) hroom_d_fits (fun _r _s9 ok5 hq => ?_) (fun kx σx hx => by subst hQ; exact zt_leave C hX ⟨by decide, by decide⟩ hx)
  obtain ⟨hs_, hk_⟩ := hq
  subst hs_
  have h := hk_
  refine z_aload_n C 0 d_d_small_13 rfl ?_
  refine z_callV C "LimbDesk$Num" [] [] 0 d_d_small_14 (c_n_small (zl E) G h ok2) k_424 k_421 k_422 k_423 k_2 (by decide) (recv_N C ok2) (by decide +kernel) rfl rfl (Nat.le_of_ble_eq_true rfl) hroom_n_small (fun r6 _s8 ok7 hq => ?_) (fun _ _ hx => hx.elim)
  obtain ⟨hs_, hk_⟩ := hq
  subst hs_
  have h := hk_
  subst hQ
  exact z_lreturn C d_d_small_17.1 hr ⟨Nat.zero_le _, Nat.zero_le _⟩ ok7 ⟨rfl, h⟩
theorem d_d_low_0 : DD b_d_low 0 (.aload_n 0) 1 1 := ⟨by decide +kernel, rfl⟩
theorem d_d_low_1 : DD b_d_low 1 (.iload_n 1) 1 2 := ⟨by decide +kernel, rfl⟩
theorem d_d_low_2 : DD b_d_low 2 (.invokevirtual 63) 3 5 := ⟨by decide +kernel, rfl⟩
theorem d_d_low_5 : DD b_d_low 5 (.invokevirtual 142) 3 8 := ⟨by decide +kernel, rfl⟩
theorem d_d_low_8 : DD b_d_low 8 .lreturn 1 9 := ⟨by decide +kernel, rfl⟩
set_option maxRecDepth 20000 in
set_option maxHeartbeats 4000000 in
theorem c_d_low (l : Launch) (G : ZG) (htl : l.stackTraces = false) {p0 : Int} {σ : Mem} {K : Int → Prop} {X : Int → Mem → Prop} (h : wp_d_low p0 σ K X) (h_p0 : okI p0) : Ct l G y_d_low (.code y_d_low b_d_low 2 (some .long)) { frames := 8, cells := 1, slots := 6, locals := 141 } 0 0 2 [.ref (zA G 42), .int (iI p0)] σ (fun r σ1 => σ = σ1 ∧ K r) X := by
  unfold wp_d_low at h
  refine Ct.ofZ [(0, .ref (zA G 42)), (1, .int (iI p0))] "LimbDesk" (by decide) rfl (Nat.le_of_ble_eq_true rfl) rfl ?_
  intro E hR hlE C hr hX
  subst hlE
  have hroom_d_at : 7 + 1 ≤ (zR E).frames ∧ 8 + (2 + 11) + 120 ≤ (zR E).locals ∧ 0 + 1 ≤ (zR E).cells ∧ 0 + 6 ≤ (zR E).slots := by rw [hR]; decide
  have hroom_n_small : 1 + 1 ≤ (zR E).frames ∧ 8 + (4 + 11) + 21 ≤ (zR E).locals ∧ 0 + 0 ≤ (zR E).cells ∧ 0 + 0 ≤ (zR E).slots := by rw [hR]; decide
  clear hR
  obtain ⟨Q, hQ⟩ : ∃ Q, Q = MQX G (zb E) 2 (fun r σ1 => σ = σ1 ∧ K r) X (zs E) 0 0 1 6 := ⟨_, rfl⟩
  show Z E G 2 0 0 (MQX G (zb E) 2 (fun r σ1 => σ = σ1 ∧ K r) X (zs E) 0 0 1 6) σ 0 [(0, .ref (zA G 42)), (1, .int (iI p0))] []
  rw [← hQ]
  refine z_aload_n C 0 d_d_low_0 rfl ?_
  refine z_iload_n C 1 d_d_low_1 rfl ?_
  refine z_callV C "LimbDesk" [.int (iI p0)] [] 1 d_d_low_2 (c_d_at (zl E) G htl h h_p0) k_80 k_77 k_79 k_s0 k_1 (by decide) (recv_D C) (by decide +kernel) rfl rfl (Nat.le_of_ble_eq_true rfl) hroom_d_at (fun r1 _s6 ok2 hq => ?_) (fun kx σx hx => by subst hQ; exact zt_leave C hX ⟨by decide, by decide⟩ hx)
  obtain ⟨hs_, hk_⟩ := hq
  subst hs_
  have h := hk_
  refine z_callV C "LimbDesk$Num" [] [] 0 d_d_low_5 (c_n_small (zl E) G h ok2) k_424 k_421 k_422 k_423 k_2 (by decide) (recv_N C ok2) (by decide +kernel) rfl rfl (Nat.le_of_ble_eq_true rfl) hroom_n_small (fun r3 _s5 ok4 hq => ?_) (fun _ _ hx => hx.elim)
  obtain ⟨hs_, hk_⟩ := hq
  subst hs_
  have h := hk_
  subst hQ
  exact z_lreturn C d_d_low_8.1 hr ⟨Nat.zero_le _, Nat.zero_le _⟩ ok4 ⟨rfl, h⟩
theorem d_d_folded_0 : DD b_d_folded 0 (.aload_n 0) 1 1 := ⟨by decide +kernel, rfl⟩
theorem d_d_folded_1 : DD b_d_folded 1 (.iload_n 1) 1 2 := ⟨by decide +kernel, rfl⟩
theorem d_d_folded_2 : DD b_d_folded 2 (.invokevirtual 63) 3 5 := ⟨by decide +kernel, rfl⟩
theorem d_d_folded_5 : DD b_d_folded 5 (.invokevirtual 146) 3 8 := ⟨by decide +kernel, rfl⟩
theorem d_d_folded_8 : DD b_d_folded 8 .lreturn 1 9 := ⟨by decide +kernel, rfl⟩
set_option maxRecDepth 20000 in
set_option maxHeartbeats 4000000 in
theorem c_d_folded (l : Launch) (G : ZG) (htl : l.stackTraces = false) {p0 : Int} {σ : Mem} {K : Int → Prop} {X : Int → Mem → Prop} (h : wp_d_folded p0 σ K X) (h_p0 : okI p0) : Ct l G y_d_folded (.code y_d_folded b_d_folded 2 (some .long)) { frames := 8, cells := 1, slots := 6, locals := 141 } 0 0 2 [.ref (zA G 42), .int (iI p0)] σ (fun r σ1 => σ = σ1 ∧ K r) X := by
  unfold wp_d_folded at h
  refine Ct.ofZ [(0, .ref (zA G 42)), (1, .int (iI p0))] "LimbDesk" (by decide) rfl (Nat.le_of_ble_eq_true rfl) rfl ?_
  intro E hR hlE C hr hX
  subst hlE
  have hroom_d_at : 7 + 1 ≤ (zR E).frames ∧ 8 + (2 + 11) + 120 ≤ (zR E).locals ∧ 0 + 1 ≤ (zR E).cells ∧ 0 + 6 ≤ (zR E).slots := by rw [hR]; decide
  have hroom_n_folded : 0 + 1 ≤ (zR E).frames ∧ 8 + (6 + 11) + 0 ≤ (zR E).locals ∧ 0 + 0 ≤ (zR E).cells ∧ 0 + 0 ≤ (zR E).slots := by rw [hR]; decide
  clear hR
  obtain ⟨Q, hQ⟩ : ∃ Q, Q = MQX G (zb E) 2 (fun r σ1 => σ = σ1 ∧ K r) X (zs E) 0 0 1 6 := ⟨_, rfl⟩
  show Z E G 2 0 0 (MQX G (zb E) 2 (fun r σ1 => σ = σ1 ∧ K r) X (zs E) 0 0 1 6) σ 0 [(0, .ref (zA G 42)), (1, .int (iI p0))] []
  rw [← hQ]
  refine z_aload_n C 0 d_d_folded_0 rfl ?_
  refine z_iload_n C 1 d_d_folded_1 rfl ?_
  refine z_callV C "LimbDesk" [.int (iI p0)] [] 1 d_d_folded_2 (c_d_at (zl E) G htl h h_p0) k_80 k_77 k_79 k_s0 k_1 (by decide) (recv_D C) (by decide +kernel) rfl rfl (Nat.le_of_ble_eq_true rfl) hroom_d_at (fun r1 _s6 ok2 hq => ?_) (fun kx σx hx => by subst hQ; exact zt_leave C hX ⟨by decide, by decide⟩ hx)
  obtain ⟨hs_, hk_⟩ := hq
  subst hs_
  have h := hk_
  refine z_callV C "LimbDesk$Num" [] [] 0 d_d_folded_5 (c_n_folded (zl E) G h ok2) k_445 k_442 k_443 k_444 k_2 (by decide) (recv_N C ok2) (by decide +kernel) rfl rfl (Nat.le_of_ble_eq_true rfl) hroom_n_folded (fun r3 _s5 ok4 hq => ?_) (fun _ _ hx => hx.elim)
  obtain ⟨hs_, hk_⟩ := hq
  subst hs_
  have h := hk_
  subst hQ
  exact z_lreturn C d_d_folded_8.1 hr ⟨Nat.zero_le _, Nat.zero_le _⟩ ok4 ⟨rfl, h⟩
theorem d_d_size_0 : DD b_d_size 0 (.aload_n 0) 1 1 := ⟨by decide +kernel, rfl⟩
theorem d_d_size_1 : DD b_d_size 1 (.iload_n 1) 1 2 := ⟨by decide +kernel, rfl⟩
theorem d_d_size_2 : DD b_d_size 2 (.invokevirtual 63) 3 5 := ⟨by decide +kernel, rfl⟩
theorem d_d_size_5 : DD b_d_size 5 (.invokevirtual 52) 3 8 := ⟨by decide +kernel, rfl⟩
theorem d_d_size_8 : DD b_d_size 8 .ireturn 1 9 := ⟨by decide +kernel, rfl⟩
set_option maxRecDepth 20000 in
set_option maxHeartbeats 4000000 in
theorem c_d_size (l : Launch) (G : ZG) (htl : l.stackTraces = false) {p0 : Int} {σ : Mem} {K : Int → Prop} {X : Int → Mem → Prop} (h : wp_d_size p0 σ K X) (h_p0 : okI p0) : Ct l G y_d_size (.code y_d_size b_d_size 2 (some .int)) { frames := 8, cells := 1, slots := 6, locals := 141 } 0 0 1 [.ref (zA G 42), .int (iI p0)] σ (fun r σ1 => σ = σ1 ∧ K r) X := by
  unfold wp_d_size at h
  refine Ct.ofZ [(0, .ref (zA G 42)), (1, .int (iI p0))] "LimbDesk" (by decide) rfl (Nat.le_of_ble_eq_true rfl) rfl ?_
  intro E hR hlE C hr hX
  subst hlE
  have hroom_d_at : 7 + 1 ≤ (zR E).frames ∧ 8 + (2 + 11) + 120 ≤ (zR E).locals ∧ 0 + 1 ≤ (zR E).cells ∧ 0 + 6 ≤ (zR E).slots := by rw [hR]; decide
  have hroom_n_bits : 1 + 1 ≤ (zR E).frames ∧ 8 + (1 + 11) + 21 ≤ (zR E).locals ∧ 0 + 0 ≤ (zR E).cells ∧ 0 + 0 ≤ (zR E).slots := by rw [hR]; decide
  clear hR
  obtain ⟨Q, hQ⟩ : ∃ Q, Q = MQX G (zb E) 1 (fun r σ1 => σ = σ1 ∧ K r) X (zs E) 0 0 1 6 := ⟨_, rfl⟩
  show Z E G 2 0 0 (MQX G (zb E) 1 (fun r σ1 => σ = σ1 ∧ K r) X (zs E) 0 0 1 6) σ 0 [(0, .ref (zA G 42)), (1, .int (iI p0))] []
  rw [← hQ]
  refine z_aload_n C 0 d_d_size_0 rfl ?_
  refine z_iload_n C 1 d_d_size_1 rfl ?_
  refine z_callV C "LimbDesk" [.int (iI p0)] [] 1 d_d_size_2 (c_d_at (zl E) G htl h h_p0) k_80 k_77 k_79 k_s0 k_1 (by decide) (recv_D C) (by decide +kernel) rfl rfl (Nat.le_of_ble_eq_true rfl) hroom_d_at (fun r1 _s6 ok2 hq => ?_) (fun kx σx hx => by subst hQ; exact zt_leave C hX ⟨by decide, by decide⟩ hx)
  obtain ⟨hs_, hk_⟩ := hq
  subst hs_
  have h := hk_
  refine z_callV C "LimbDesk$Num" [] [] 0 d_d_size_5 (c_n_bits (zl E) G h ok2) k_155 k_152 k_153 k_154 k_2 (by decide) (recv_N C ok2) (by decide +kernel) rfl rfl (Nat.le_of_ble_eq_true rfl) hroom_n_bits (fun r3 _s5 ok4 hq => ?_) (fun _ _ hx => hx.elim)
  obtain ⟨hs_, hk_⟩ := hq
  subst hs_
  have h := hk_
  subst hQ
  exact z_ireturn C d_d_size_8.1 hr ⟨Nat.zero_le _, Nat.zero_le _⟩ ok4 ⟨rfl, h⟩
