/-! Predicates of the methods: what each does to the memory, printed by gen/gen.py out of the bytecode. -/
def wp_d_good (p0 : Int) (σ : Mem) (K : Prop) (X : Int → Mem → Prop) : Prop :=
  ((p0 ≠ 0) →
    K) ∧
  ((p0 = 0) →
    X 1 σ)
def wp_d_fits (p0 : Int) (σ : Mem) (K : Prop) (X : Int → Mem → Prop) : Prop :=
  ((p0 ≠ 0) →
    K) ∧
  ((p0 = 0) →
    X 2 σ)
def wp_d_in (p0 p1 p2 : Int) (σ : Mem) (K : Int → Prop) : Prop :=
  Jq0 (
    K 0)
  (fun J1 =>
    ((p0 < p1) →
      J1) ∧
    ((p1 ≤ p0) →
      ((p2 < p0) →
        J1) ∧
      ((p0 ≤ p2) →
        K 1)))
def wp_d_at (p0 : Int) (σ : Mem) (K : Int → Prop) (X : Int → Mem → Prop) : Prop :=
  wp_d_in p0 0 15 σ (fun r1 =>
    wp_d_good r1 σ (
      (0 ≤ p0 ∧ p0 < 16) ∧
      K p0) X)
def wp_jI_nlz (p0 : Int) (σ : Mem) (K : Int → Prop) : Prop :=
  ((0 < p0) →
    Jq2 (fun v0_2 v1_3 => 
      Jq2 (fun v0_7 v1_8 => 
        Jq2 (fun v0_12 v1_13 => 
          Jq2 (fun v0_17 v1_18 => 
            (0 ≤ v0_17 ∧ v0_17 ≤ 2147483647) ∧
            okI (v1_18 - (v0_17 / 2)) ∧
            K (v1_18 - (v0_17 / 2)))
          (fun J21 =>
            ((v0_12 < 4) →
              J21 v0_12 v1_13) ∧
            ((4 ≤ v0_12) →
              (0 ≤ v0_12 ∧ v0_12 ≤ 2147483647) ∧
              ∀ v0_26 : Int, v0_26 = (v0_12 / 4) →
              okI v0_26 ∧
              okI (v1_13 + (-2)) ∧
              J21 v0_26 (v1_13 + (-2)))))
        (fun J16 =>
          ((v0_7 < 16) →
            J16 v0_7 v1_8) ∧
          ((16 ≤ v0_7) →
            (0 ≤ v0_7 ∧ v0_7 ≤ 2147483647) ∧
            ∀ v0_32 : Int, v0_32 = (v0_7 / 16) →
            okI v0_32 ∧
            okI (v1_8 + (-4)) ∧
            J16 v0_32 (v1_8 + (-4)))))
      (fun J11 =>
        ((v0_2 < 256) →
          J11 v0_2 v1_3) ∧
        ((256 ≤ v0_2) →
          (0 ≤ v0_2 ∧ v0_2 ≤ 2147483647) ∧
          ∀ v0_38 : Int, v0_38 = (v0_2 / 256) →
          okI v0_38 ∧
          okI (v1_3 + (-8)) ∧
          J11 v0_38 (v1_3 + (-8)))))
    (fun J6 =>
      ((p0 < 65536) →
        J6 p0 31) ∧
      ((65536 ≤ p0) →
        (0 ≤ p0 ∧ p0 ≤ 2147483647) ∧
        ∀ v0_44 : Int, v0_44 = (p0 / 65536) →
        okI v0_44 ∧
        okI (31 + (-16)) ∧
        J6 v0_44 (31 + (-16))))) ∧
  ((p0 ≤ 0) →
    ∀ s49 : Int, s49 = (if p0 ≠ 0 then 0 else 32) →
    K s49)
def wp_n_bits (t : Int) (σ : Mem) (K : Int → Prop) : Prop :=
  okI (σ t 1) ∧
  (((σ t 1) ≠ 0) →
    (0 ≤ ((σ t 1) - 1) ∧ ((σ t 1) - 1) < 600) ∧
    okI (σ (21 + t) ((σ t 1) - 1)) ∧
    wp_jI_nlz (σ (21 + t) ((σ t 1) - 1)) σ (fun r5 =>
      okI (((24 * ((σ t 1) - 1)) + 32) - r5) ∧
      K (((24 * ((σ t 1) - 1)) + 32) - r5))) ∧
  (((σ t 1) = 0) →
    K 0)
def wp_n_take (t o : Int) (σ : Mem) (K : Mem → Prop) : Prop :=
  Lo1 (fun v2_1 σ2 again4 =>
    okI (σ2 o 1) ∧
    (((σ2 o 1) ≤ v2_1) →
      K (mS (mS σ2 t 1 (σ2 o 1)) t 2 ((mS σ2 t 1 (σ2 o 1)) o 2))) ∧
    ((v2_1 < (σ2 o 1)) →
      (0 ≤ v2_1 ∧ v2_1 < 600) ∧
      okI (v2_1 + 1) ∧
      again4 (v2_1 + 1) (mS σ2 (21 + t) v2_1 (σ2 (21 + o) v2_1)))) 0 σ
def wp_d_into (p0 : Int) (σ : Mem) (K : Int → Mem → Prop) (X : Int → Mem → Prop) : Prop :=
  wp_n_bits 16 σ (fun r1 =>
    ∀ s4 : Int, s4 = (if 2048 < r1 then 0 else 1) →
    wp_d_fits s4 σ (
      wp_n_take p0 16 σ (fun σ8 =>
        K p0 σ8)) X)
def wp_n_trim (t length s : Int) (σ : Mem) (K : Mem → Prop) : Prop :=
  Lo0 (fun σ1 again2 =>
    okI (σ1 t 1) ∧
    Jq0 (
      ∀ s6 : Int, s6 = (if (σ1 t 1) ≠ 0 then s else 0) →
      K (mS σ1 t 2 s6))
    (fun J4 =>
      (((σ1 t 1) ≤ 0) →
        J4) ∧
      ((0 < (σ1 t 1)) →
        (0 ≤ ((σ1 t 1) - 1) ∧ ((σ1 t 1) - 1) < 600) ∧
        okI (σ1 (21 + t) ((σ1 t 1) - 1)) ∧
        (((σ1 (21 + t) ((σ1 t 1) - 1)) ≠ 0) →
          J4) ∧
        (((σ1 (21 + t) ((σ1 t 1) - 1)) = 0) →
          again2 (mS σ1 t 1 ((σ1 t 1) - 1)))))) (mS σ t 1 length)
def wp_n_set (t v : Int) (σ : Mem) (K : Mem → Prop) : Prop :=
  ∀ s2 : Int, s2 = (if 0 ≤ v then v else (-v)) →
  Lo2 (fun v3_4 v5_5 σ6 again8 =>
    ((3 ≤ v5_5) →
      ∀ s11 : Int, s11 = (if 0 ≤ v then 1 else (-1)) →
      wp_n_trim t 3 s11 σ6 (fun σ14 =>
        K σ14)) ∧
    ((v5_5 < 3) →
      (0 ≤ v5_5 ∧ v5_5 < 600) ∧
      ∀ v3_17 : Int, v3_17 = (v3_4 % 18446744073709551616 / 16777216) →
      okI (v5_5 + 1) ∧
      again8 v3_17 (v5_5 + 1) (mS σ6 (21 + t) v5_5 (v3_4 % 16777216)))) s2 0 σ
def wp_d_set (p0 p1 : Int) (σ : Mem) (K : Int → Mem → Prop) (X : Int → Mem → Prop) : Prop :=
  wp_d_at p0 σ (fun r1 =>
    wp_n_bits r1 σ (fun r3 =>
      wp_d_at p0 σ (fun r5 =>
        wp_n_set r5 p1 σ (fun σ7 =>
          K r3 σ7)) X)) X
def wp_d_line (p0 : Int) (σ : Mem) (K : Int → Mem → Prop) (X : Int → Mem → Prop) : Prop :=
  Lq1 (fun v3_1 again3 =>
    Jq0 (
      ∀ s6 : Int, s6 = (if v3_1 ≤ 0 then 0 else 1) →
      wp_d_good s6 σ (
        okI ((σ 42 7) + v3_1) ∧
        ((((σ 42 7) + v3_1) ≤ 2100) →
          Lo1 (fun v4_12 σ13 again15 =>
            ((v3_1 ≤ v4_12) →
              okI (σ13 42 7) ∧
              K (σ13 42 7) σ13) ∧
            ((v4_12 < v3_1) →
              (0 ≤ (8 * v4_12) ∧ (8 * v4_12) < 64) ∧
              (0 ≤ (σ13 42 7) ∧ (σ13 42 7) < 2100) ∧
              (-128 ≤ (((p0 % 18446744073709551616 / 2 ^ ((8 * v4_12)).toNat) : Int).bmod 256) ∧ (((p0 % 18446744073709551616 / 2 ^ ((8 * v4_12)).toNat) : Int).bmod 256) ≤ 127) ∧
              okI (v4_12 + 1) ∧
              again15 (v4_12 + 1) (mS (mS σ13 42 7 ((σ13 42 7) + 1)) 44 (σ13 42 7) (((p0 % 18446744073709551616 / 2 ^ ((8 * v4_12)).toNat) : Int).bmod 256)))) 0 σ) ∧
        ((2100 < ((σ 42 7) + v3_1)) →
          X 3 σ)) X)
    (fun J4 =>
      ((8 ≤ v3_1) →
        J4) ∧
      ((v3_1 < 8) →
        (0 ≤ (8 * v3_1) ∧ (8 * v3_1) < 64) ∧
        ((((p0 % 18446744073709551616 / 2 ^ ((8 * v3_1)).toNat) % 256) = 0) →
          J4) ∧
        ((((p0 % 18446744073709551616 / 2 ^ ((8 * v3_1)).toNat) % 256) ≠ 0) →
          wp_d_in ((p0 % 18446744073709551616 / 2 ^ ((8 * v3_1)).toNat) % 256) 32 126 σ (fun r27 =>
            wp_d_good r27 σ (
              okI (v3_1 + 1) ∧
              again3 (v3_1 + 1)) X))))) 0
def wp_n_digit (c : Int) (σ : Mem) (K : Int → Prop) : Prop :=
  Jq0 (
    Jq0 (
      Jq0 (
        K 99)
      (fun J3 =>
        ((c < 65) →
          J3) ∧
        ((65 ≤ c) →
          ((90 < c) →
            J3) ∧
          ((c ≤ 90) →
            okI ((c - 65) + 10) ∧
            K ((c - 65) + 10)))))
    (fun J2 =>
      ((c < 97) →
        J2) ∧
      ((97 ≤ c) →
        ((122 < c) →
          J2) ∧
        ((c ≤ 122) →
          okI ((c - 97) + 10) ∧
          K ((c - 97) + 10)))))
  (fun J1 =>
    ((c < 48) →
      J1) ∧
    ((48 ≤ c) →
      ((57 < c) →
        J1) ∧
      ((c ≤ 57) →
        okI (c - 48) ∧
        K (c - 48))))
def wp_n_parse (t from_ to_ base : Int) (σ : Mem) (K : Mem → Prop) : Prop :=
  Lo2 (fun v5_1 v6_2 σ3 again6 =>
    ((to_ ≤ v6_2) →
      wp_n_trim t v5_1 1 σ3 (fun σ8 =>
        K σ8)) ∧
    ((v6_2 < to_) →
      (0 ≤ v6_2 ∧ v6_2 < 2100) ∧
      ∀ v7_11 : Int, v7_11 = ((σ3 44 v6_2) % 256) →
      wp_n_digit v7_11 σ3 (fun r14 =>
        Jo2 (fun v5_16 v6_17 σ18 => 
          okI (v6_17 + 1) ∧
          again6 v5_16 (v6_17 + 1) σ18)
        (fun J21 =>
          ((r14 < base) →
            wp_n_digit v7_11 σ3 (fun r24 =>
              Lq3 (fun v6_26 v8_27 v9_28 again32 =>
                okI (v6_26 + 1) ∧
                Jq0 (
                  Lo2 (fun v10_35 v12_36 σ37 again39 =>
                    ((v5_1 ≤ v12_36) →
                      okE v10_35 ∧
                      ((v10_35 = 0) →
                        J21 v5_1 v6_26 σ37) ∧
                      ((v10_35 ≠ 0) →
                        (0 ≤ v5_1 ∧ v5_1 < 600) ∧
                        okI (v5_1 + 1) ∧
                        J21 (v5_1 + 1) v6_26 (mS σ37 (21 + t) v5_1 v10_35))) ∧
                    ((v12_36 < v5_1) →
                      (0 ≤ v12_36 ∧ v12_36 < 600) ∧
                      okI (σ37 (21 + t) v12_36) ∧
                      ∀ v13_47 : Int, v13_47 = (((σ37 (21 + t) v12_36) * v8_27) + v10_35) →
                      ∀ v10_49 : Int, v10_49 = (v13_47 % 18446744073709551616 / 16777216) →
                      okI (v12_36 + 1) ∧
                      again39 v10_49 (v12_36 + 1) (mS σ37 (21 + t) v12_36 (v13_47 % 16777216)))) v9_28 0 σ3)
                (fun J34 =>
                  ((to_ ≤ (v6_26 + 1)) →
                    J34) ∧
                  (((v6_26 + 1) < to_) →
                    (0 < base ∧ base ≤ 2147483647) ∧
                    okI (16777215 / base) ∧
                    (((16777215 / base) < v8_27) →
                      J34) ∧
                    ((v8_27 ≤ (16777215 / base)) →
                      (0 ≤ (v6_26 + 1) ∧ (v6_26 + 1) < 2100) ∧
                      wp_n_digit ((σ3 44 (v6_26 + 1)) % 256) σ3 (fun r57 =>
                        ((base ≤ r57) →
                          J34) ∧
                        ((r57 < base) →
                          ∀ v8_60 : Int, v8_60 = (v8_27 * base) →
                          wp_n_digit ((σ3 44 (v6_26 + 1)) % 256) σ3 (fun r62 =>
                            ∀ v9_64 : Int, v9_64 = ((v9_28 * base) + r62) →
                            okI v8_60 ∧
                            okI v9_64 ∧
                            again32 (v6_26 + 1) v8_60 v9_64))))))) v6_2 base r24)) ∧
          ((base ≤ r14) →
            J21 v5_1 v6_2 σ3))))) 0 from_ σ
def wp_d_read (p0 p1 : Int) (σ : Mem) (K : Int → Mem → Prop) (X : Int → Mem → Prop) : Prop :=
  ∀ v3_1 : Int, v3_1 = (σ 42 7) →
  okI v3_1 ∧
  Jq1 (fun s4 => 
    wp_d_at p0 (mS σ 42 7 0) (fun r7 =>
      wp_d_in p1 2 36 (mS σ 42 7 0) (fun r9 =>
        Jq1 (fun s11 => 
          wp_d_good s11 (mS σ 42 7 0) (
            Lq1 (fun v6_15 again17 =>
              ((v3_1 ≤ v6_15) →
                Lq1 (fun v6_19 again21 =>
                  Jq0 (
                    okI (v3_1 - v6_19) ∧
                    ∀ s25 : Int, s25 = (if 2048 < (v3_1 - v6_19) then 0 else 1) →
                    wp_d_fits s25 (mS σ 42 7 0) (
                      wp_n_parse 16 v6_19 v3_1 p1 (mS σ 42 7 0) (fun σ29 =>
                        wp_n_bits 16 σ29 (fun r31 =>
                          ∀ s34 : Int, s34 = (if 2048 < r31 then 0 else 1) →
                          wp_d_fits s34 σ29 (
                            Jo0 (fun σ38 => 
                              wp_d_into r7 σ38 (fun r40 σ41 =>
                                wp_n_bits r40 σ41 (fun r43 =>
                                  K r43 σ41)) X)
                            (fun J39 =>
                              ((s4 ≠ 1) →
                                J39 σ29) ∧
                              ((s4 = 1) →
                                J39 (mS σ29 16 2 (-(σ29 16 2)))))) X))) X)
                  (fun J22 =>
                    ((v3_1 ≤ v6_19) →
                      J22) ∧
                    ((v6_19 < v3_1) →
                      (0 ≤ v6_19 ∧ v6_19 < 2100) ∧
                      okI ((mS σ 42 7 0) 44 v6_19) ∧
                      ((((mS σ 42 7 0) 44 v6_19) ≠ 48) →
                        J22) ∧
                      ((((mS σ 42 7 0) 44 v6_19) = 48) →
                        okI (v6_19 + 1) ∧
                        again21 (v6_19 + 1))))) s4) ∧
              ((v6_15 < v3_1) →
                (0 ≤ v6_15 ∧ v6_15 < 2100) ∧
                okI ((mS σ 42 7 0) 44 v6_15) ∧
                wp_n_digit ((mS σ 42 7 0) 44 v6_15) (mS σ 42 7 0) (fun r57 =>
                  ∀ s60 : Int, s60 = (if p1 ≤ r57 then 0 else 1) →
                  wp_d_good s60 (mS σ 42 7 0) (
                    okI (v6_15 + 1) ∧
                    again17 (v6_15 + 1)) X))) s4) X)
        (fun J13 =>
          Jq0 (
            J13 0)
          (fun J68 =>
            ((r9 = 0) →
              J68) ∧
            ((r9 ≠ 0) →
              ((v3_1 ≤ s4) →
                J68) ∧
              ((s4 < v3_1) →
                J13 1)))))) X)
  (fun J6 =>
    Jq0 (
      J6 0)
    (fun J73 =>
      ((v3_1 ≤ 0) →
        J73) ∧
      ((0 < v3_1) →
        okI (σ 44 0) ∧
        (((σ 44 0) ≠ 45) →
          J73) ∧
        (((σ 44 0) = 45) →
          J6 1))))
def wp_n_text (t at_ base : Int) (σ : Mem) (K : Int → Mem → Prop) : Prop :=
  ∀ v7_1 : Int, v7_1 = (σ t 2) →
  okI (σ t 1) ∧
  Jo1 (fun v6_4 σ5 => 
    Lq2 (fun v4_8 v5_9 again12 =>
      (0 < base ∧ base ≤ 2147483647) ∧
      okI (16777215 / base) ∧
      (((16777215 / base) < v5_9) →
        Lo1 (fun v6_16 σ17 again19 =>
          okI (σ17 t 1) ∧
          (((σ17 t 1) ≤ 0) →
            okI v7_1 ∧
            ((0 ≤ v7_1) →
              okI (v6_16 - at_) ∧
              K (v6_16 - at_) σ17) ∧
            ((v7_1 < 0) →
              (0 ≤ v6_16 ∧ v6_16 < 2100) ∧
              okI ((v6_16 + 1) - at_) ∧
              K ((v6_16 + 1) - at_) (mS σ17 44 v6_16 45))) ∧
          ((0 < (σ17 t 1)) →
            ∀ v10_27 : Int, v10_27 = ((σ17 t 1) - 1) →
            okI v10_27 ∧
            Lo2 (fun v8_29 v10_30 σ32 again34 =>
              ((v10_30 < 0) →
                okI (σ32 t 1) ∧
                wp_n_trim t (σ32 t 1) 1 σ32 (fun σ37 =>
                  Lo3 (fun v6_39 v8_40 v10_41 σ42 again45 =>
                    Jq0 (
                      again19 v6_39 σ42)
                    (fun J46 =>
                      ((v4_8 ≤ v10_41) →
                        J46) ∧
                      ((v10_41 < v4_8) →
                        okI (σ42 t 1) ∧
                        Jq0 (
                          (0 ≤ v8_40 ∧ v8_40 ≤ 9223372036854775807) ∧
                          (0 < base ∧ base ≤ 9223372036854775807) ∧
                          ∀ v11_52 : Int, v11_52 = (v8_40 % base) →
                          okI v11_52 ∧
                          ∀ s56 : Int, s56 = (if 10 ≤ v11_52 then ((97 + v11_52) - 10) else (48 + v11_52)) →
                          (0 ≤ v6_39 ∧ v6_39 < 2100) ∧
                          (-128 ≤ ((s56 : Int).bmod 256) ∧ ((s56 : Int).bmod 256) ≤ 127) ∧
                          ∀ v8_60 : Int, v8_60 = (v8_40 / base) →
                          okI (v6_39 + 1) ∧
                          okI (v10_41 + 1) ∧
                          again45 (v6_39 + 1) v8_60 (v10_41 + 1) (mS σ42 44 v6_39 ((s56 : Int).bmod 256)))
                        (fun J49 =>
                          ((0 < (σ42 t 1)) →
                            J49) ∧
                          (((σ42 t 1) ≤ 0) →
                            okL v8_40 ∧
                            ((v8_40 ≤ 0) →
                              J46) ∧
                            ((0 < v8_40) →
                              J49)))))) v6_16 v8_29 0 σ37)) ∧
              ((0 ≤ v10_30) →
                (0 ≤ v10_30 ∧ v10_30 < 600) ∧
                okI (σ32 (21 + t) v10_30) ∧
                ∀ v11_69 : Int, v11_69 = (orL (v8_29 * 16777216) (σ32 (21 + t) v10_30)) →
                (0 ≤ v11_69 ∧ v11_69 ≤ 9223372036854775807) ∧
                (0 < v5_9 ∧ v5_9 ≤ 9223372036854775807) ∧
                ∀ v8_74 : Int, v8_74 = (v11_69 % v5_9) →
                okI (v10_30 + (-1)) ∧
                again34 v8_74 (v10_30 + (-1)) (mS σ32 (21 + t) v10_30 (v11_69 / v5_9)))) 0 v10_27 σ17)) v6_4 σ5) ∧
      ((v5_9 ≤ (16777215 / base)) →
        ∀ v5_77 : Int, v5_77 = (v5_9 * base) →
        okI (v4_8 + 1) ∧
        okI v5_77 ∧
        again12 (v4_8 + 1) v5_77)) 1 base)
  (fun J7 =>
    (((σ t 1) ≠ 0) →
      J7 at_ σ) ∧
    (((σ t 1) = 0) →
      (0 ≤ at_ ∧ at_ < 2100) ∧
      okI (at_ + 1) ∧
      J7 (at_ + 1) (mS σ 44 at_ 48)))
def wp_d_show (p0 p1 : Int) (σ : Mem) (K : Int → Mem → Prop) (X : Int → Mem → Prop) : Prop :=
  wp_d_at p0 σ (fun r1 =>
    wp_n_take 16 r1 σ (fun σ3 =>
      wp_d_in p1 2 36 σ3 (fun r5 =>
        wp_d_good r5 σ3 (
          wp_n_text 16 0 p1 σ3 (fun r8 σ9 =>
            ∀ v4_11 : Int, v4_11 = (((mS σ9 42 7 r8) 42 7) - 1) →
            okI v4_11 ∧
            Lo2 (fun v3_13 v4_14 σ16 again19 =>
              ((v4_14 ≤ v3_13) →
                okI (σ16 42 7) ∧
                K (σ16 42 7) σ16) ∧
              ((v3_13 < v4_14) →
                (0 ≤ v3_13 ∧ v3_13 < 2100) ∧
                ∀ v5_23 : Int, v5_23 = (σ16 44 v3_13) →
                (0 ≤ v4_14 ∧ v4_14 < 2100) ∧
                (-128 ≤ (σ16 44 v4_14) ∧ (σ16 44 v4_14) ≤ 127) ∧
                (-128 ≤ v5_23 ∧ v5_23 ≤ 127) ∧
                okI (v3_13 + 1) ∧
                okI (v4_14 + (-1)) ∧
                again19 (v3_13 + 1) (v4_14 + (-1)) (mS (mS σ16 44 v3_13 (σ16 44 v4_14)) 44 v4_14 v5_23))) 0 v4_11 (mS σ9 42 7 r8))) X))) X
def wp_d_letter (p0 : Int) (σ : Mem) (K : Int → Mem → Prop) (X : Int → Mem → Prop) : Prop :=
  okI ((σ 42 7) - 1) ∧
  wp_d_in p0 0 ((σ 42 7) - 1) σ (fun r2 =>
    ((r2 ≠ 0) →
      (0 ≤ p0 ∧ p0 < 2100) ∧
      okI (σ 44 p0) ∧
      K (σ 44 p0) σ) ∧
    ((r2 = 0) →
      X 3 σ))
def wp_n_limbs (a b : Int) (σ : Mem) (K : Int → Prop) : Prop :=
  okI (σ a 1) ∧
  okI (σ b 1) ∧
  (((σ a 1) = (σ b 1)) →
    ∀ v2_4 : Int, v2_4 = ((σ a 1) - 1) →
    okI v2_4 ∧
    Lq1 (fun v2_6 again9 =>
      ((v2_6 < 0) →
        K 0) ∧
      ((0 ≤ v2_6) →
        (0 ≤ v2_6 ∧ v2_6 < 600) ∧
        okI (σ (21 + a) v2_6) ∧
        okI (σ (21 + b) v2_6) ∧
        (((σ (21 + a) v2_6) = (σ (21 + b) v2_6)) →
          okI (v2_6 + (-1)) ∧
          again9 (v2_6 + (-1))) ∧
        (((σ (21 + a) v2_6) ≠ (σ (21 + b) v2_6)) →
          ∀ s17 : Int, s17 = (if (σ (21 + b) v2_6) ≤ (σ (21 + a) v2_6) then 1 else (-1)) →
          K s17))) v2_4) ∧
  (((σ a 1) ≠ (σ b 1)) →
    ∀ s21 : Int, s21 = (if (σ b 1) ≤ (σ a 1) then 1 else (-1)) →
    K s21)
def wp_n_sum3 (t a b by_ : Int) (σ : Mem) (K : Mem → Prop) : Prop :=
  ∀ v4_1 : Int, v4_1 = (σ a 2) →
  ∀ v5_3 : Int, v5_3 = ((σ b 2) * by_) →
  ∀ v6_5 : Int, v6_5 = (σ a 1) →
  ∀ v7_7 : Int, v7_7 = (σ b 1) →
  okI v4_1 ∧
  Jq0 (
    okI v6_5 ∧
    okI v7_7 ∧
    ∀ v8_13 : Int, v8_13 = (if v6_5 < v7_7 then v7_7 else v6_5) →
    Lo2 (fun v9_16 v10_17 σ18 again21 =>
      ((v8_13 ≤ v10_17) →
        (0 ≤ v8_13 ∧ v8_13 < 600) ∧
        ∀ s25 : Int, s25 = (if v4_1 ≠ 0 then v4_1 else v5_3) →
        okI (v8_13 + 1) ∧
        okI s25 ∧
        wp_n_trim t (v8_13 + 1) s25 (mS σ18 (21 + t) v8_13 v9_16) (fun σ29 =>
          K σ29)) ∧
      ((v10_17 < v8_13) →
        ((v10_17 < v6_5) → (0 ≤ v10_17 ∧ v10_17 < 600) ∧ True) ∧
        ∀ s33 : Int, s33 = (if v6_5 ≤ v10_17 then 0 else (σ18 (21 + a) v10_17)) →
        ((v10_17 < v7_7) → (0 ≤ v10_17 ∧ v10_17 < 600) ∧ True) ∧
        ∀ s38 : Int, s38 = (if v7_7 ≤ v10_17 then 0 else (σ18 (21 + b) v10_17)) →
        ∀ v11_41 : Int, v11_41 = ((s33 + s38) + v9_16) →
        (0 ≤ v10_17 ∧ v10_17 < 600) ∧
        okI v11_41 ∧
        ∀ v9_45 : Int, v9_45 = (v11_41 / 16777216) →
        okI v9_45 ∧
        okI (v10_17 + 1) ∧
        again21 v9_45 (v10_17 + 1) (mS σ18 (21 + t) v10_17 (v11_41 % 16777216)))) 0 0 σ)
  (fun J10 =>
    ((v4_1 = 0) →
      J10) ∧
    ((v4_1 ≠ 0) →
      okI v5_3 ∧
      ((v5_3 = 0) →
        J10) ∧
      ((v5_3 ≠ 0) →
        ((v4_1 ≠ v5_3) →
          wp_n_limbs a b σ (fun r53 =>
            ∀ s56 : Int, s56 = (if r53 < 0 then 0 else 1) →
            Jq1 (fun s59 => 
              Jq1 (fun s62 => 
                ∀ v11_65 : Int, v11_65 = (σ s59 1) →
                ∀ v12_67 : Int, v12_67 = (σ s62 1) →
                Lo2 (fun v13_69 v14_70 σ71 again74 =>
                  okI v11_65 ∧
                  ((v11_65 ≤ v14_70) →
                    ∀ s78 : Int, s78 = (if s56 = 0 then v5_3 else v4_1) →
                    wp_n_trim t v11_65 s78 σ71 (fun σ81 =>
                      K σ81)) ∧
                  ((v14_70 < v11_65) →
                    (0 ≤ v14_70 ∧ v14_70 < 600) ∧
                    okI v12_67 ∧
                    ∀ s86 : Int, s86 = (if v12_67 ≤ v14_70 then 0 else (σ71 (21 + s62) v14_70)) →
                    ∀ v15_88 : Int, v15_88 = (((σ71 (21 + s59) v14_70) - s86) - v13_69) →
                    okI v15_88 ∧
                    ∀ s92 : Int, s92 = (if 0 ≤ v15_88 then 0 else 1) →
                    okI (v14_70 + 1) ∧
                    again74 s92 (v14_70 + 1) (mS σ71 (21 + t) v14_70 (v15_88 % 16777216)))) 0 0 σ)
              (fun J64 =>
                ((s56 = 0) →
                  J64 a) ∧
                ((s56 ≠ 0) →
                  J64 b)))
            (fun J61 =>
              ((s56 = 0) →
                J61 b) ∧
              ((s56 ≠ 0) →
                J61 a)))) ∧
        ((v4_1 = v5_3) →
          J10))))
def wp_n_sum (t a b : Int) (σ : Mem) (K : Mem → Prop) : Prop :=
  wp_n_sum3 t a b 1 σ (fun σ1 =>
    K σ1)
def wp_n_difference (t a b : Int) (σ : Mem) (K : Mem → Prop) : Prop :=
  wp_n_sum3 t a b (-1) σ (fun σ1 =>
    K σ1)
def wp_n_product (t a b : Int) (σ : Mem) (K : Mem → Prop) : Prop :=
  ∀ v3_1 : Int, v3_1 = ((σ a 1) + (σ b 1)) →
  Lo1 (fun v4_3 σ4 again6 =>
    okI v3_1 ∧
    ((v3_1 ≤ v4_3) →
      Lo1 (fun v4_9 σ10 again12 =>
        okI (σ10 a 1) ∧
        (((σ10 a 1) ≤ v4_9) →
          okI ((σ10 a 2) * (σ10 b 2)) ∧
          wp_n_trim t v3_1 ((σ10 a 2) * (σ10 b 2)) σ10 (fun σ16 =>
            K σ16)) ∧
        ((v4_9 < (σ10 a 1)) →
          (0 ≤ v4_9 ∧ v4_9 < 600) ∧
          okI (σ10 (21 + a) v4_9) ∧
          ∀ v7_20 : Int, v7_20 = (σ10 (21 + a) v4_9) →
          Lo2 (fun v5_23 v9_24 σ25 again27 =>
            okI (σ25 b 1) ∧
            (((σ25 b 1) ≤ v9_24) →
              (0 ≤ (v4_9 + (σ25 b 1)) ∧ (v4_9 + (σ25 b 1)) < 600) ∧
              okI (v4_9 + 1) ∧
              again12 (v4_9 + 1) (mS σ25 (21 + t) (v4_9 + (σ25 b 1)) v5_23)) ∧
            ((v9_24 < (σ25 b 1)) →
              (0 ≤ v9_24 ∧ v9_24 < 600) ∧
              okI (σ25 (21 + b) v9_24) ∧
              (0 ≤ (v4_9 + v9_24) ∧ (v4_9 + v9_24) < 600) ∧
              okI (σ25 (21 + t) (v4_9 + v9_24)) ∧
              ∀ v10_36 : Int, v10_36 = (((v7_20 * (σ25 (21 + b) v9_24)) + (σ25 (21 + t) (v4_9 + v9_24))) + v5_23) →
              ∀ v5_38 : Int, v5_38 = (v10_36 % 18446744073709551616 / 16777216) →
              okI (v9_24 + 1) ∧
              again27 v5_38 (v9_24 + 1) (mS σ25 (21 + t) (v4_9 + v9_24) (v10_36 % 16777216)))) 0 0 σ10)) 0 σ4) ∧
    ((v4_3 < v3_1) →
      (0 ≤ v4_3 ∧ v4_3 < 600) ∧
      okI (v4_3 + 1) ∧
      again6 (v4_3 + 1) (mS σ4 (21 + t) v4_3 0))) 0 σ
def wp_d_work (p0 p1 p2 p3 : Int) (σ : Mem) (K : Int → Mem → Prop) (X : Int → Mem → Prop) : Prop :=
  wp_d_at p1 σ (fun r1 =>
    wp_d_at p2 σ (fun r3 =>
      wp_d_at p3 σ (fun r5 =>
        wp_d_in p0 0 2 σ (fun r7 =>
          wp_d_good r7 σ (
            Jo0 (fun σ10 => 
              wp_d_into r1 σ10 (fun r12 σ13 =>
                okI (σ13 r12 2) ∧
                K (σ13 r12 2) σ13) X)
            (fun J11 =>
              ((p0 ≠ 0) →
                ((p0 ≠ 1) →
                  wp_n_product 16 r3 r5 σ (fun σ18 =>
                    J11 σ18)) ∧
                ((p0 = 1) →
                  wp_n_difference 16 r3 r5 σ (fun σ20 =>
                    J11 σ20))) ∧
              ((p0 = 0) →
                wp_n_sum 16 r3 r5 σ (fun σ22 =>
                  J11 σ22)))) X)) X) X) X
def wp_n_left (t a by_ : Int) (σ : Mem) (K : Mem → Prop) : Prop :=
  (0 ≤ by_ ∧ by_ ≤ 2147483647) ∧
  ∀ v3_2 : Int, v3_2 = (by_ / 24) →
  ∀ v4_4 : Int, v4_4 = (by_ % 24) →
  ∀ v5_7 : Int, v5_7 = (σ a 1) →
  (0 ≤ (v5_7 + v3_2) ∧ (v5_7 + v3_2) < 600) ∧
  ∀ v6_10 : Int, v6_10 = (v5_7 - 1) →
  okI v6_10 ∧
  Lo1 (fun v6_12 σ14 again16 =>
    ((v6_12 < 0) →
      Lo1 (fun v6_18 σ19 again21 =>
        okI v3_2 ∧
        ((v3_2 ≤ v6_18) →
          okI ((v5_7 + v3_2) + 1) ∧
          okI (σ19 a 2) ∧
          wp_n_trim t ((v5_7 + v3_2) + 1) (σ19 a 2) σ19 (fun σ26 =>
            K σ26)) ∧
        ((v6_18 < v3_2) →
          (0 ≤ v6_18 ∧ v6_18 < 600) ∧
          okI (v6_18 + 1) ∧
          again21 (v6_18 + 1) (mS σ19 (21 + t) v6_18 0))) 0 σ14) ∧
    ((0 ≤ v6_12) →
      (0 ≤ v6_12 ∧ v6_12 < 600) ∧
      okI (σ14 (21 + a) v6_12) ∧
      (0 ≤ v4_4 ∧ v4_4 < 64) ∧
      ∀ v7_33 : Int, v7_33 = ((σ14 (21 + a) v6_12) * 2 ^ (v4_4).toNat) →
      (0 ≤ ((v6_12 + v3_2) + 1) ∧ ((v6_12 + v3_2) + 1) < 600) ∧
      (0 ≤ (v6_12 + v3_2) ∧ (v6_12 + v3_2) < 600) ∧
      okI (v6_12 + (-1)) ∧
      again16 (v6_12 + (-1)) (mS (mS σ14 (21 + t) ((v6_12 + v3_2) + 1) (orI (σ14 (21 + t) ((v6_12 + v3_2) + 1)) (v7_33 % 18446744073709551616 / 16777216))) (21 + t) (v6_12 + v3_2) (v7_33 % 16777216)))) v6_10 (mS σ (21 + t) (v5_7 + v3_2) 0)
def wp_n_step (u v j n : Int) (σ : Mem) (K : Int → Mem → Prop) : Prop :=
  (0 ≤ (j + n) ∧ (j + n) < ln u) ∧
  okI (σ u (j + n)) ∧
  (0 ≤ ((j + n) - 1) ∧ ((j + n) - 1) < ln u) ∧
  okI (σ u ((j + n) - 1)) ∧
  ∀ v4_5 : Int, v4_5 = (orL ((σ u (j + n)) * 16777216) (σ u ((j + n) - 1))) →
  (0 ≤ (n - 1) ∧ (n - 1) < ln v) ∧
  okI (σ v (n - 1)) ∧
  (0 ≤ v4_5 ∧ v4_5 ≤ 9223372036854775807) ∧
  (0 < (σ v (n - 1)) ∧ (σ v (n - 1)) ≤ 9223372036854775807) ∧
  ∀ v6_12 : Int, v6_12 = (v4_5 / (σ v (n - 1))) →
  ∀ v8_14 : Int, v8_14 = (v4_5 % (σ v (n - 1))) →
  Lq2 (fun v6_16 v8_17 again18 =>
    okL v8_17 ∧
    Jq0 (
      Lo2 (fun v10_21 v12_22 σ23 again25 =>
        ((n ≤ v12_22) →
          okI (σ23 u (j + n)) ∧
          ∀ v12_28 : Int, v12_28 = ((σ23 u (j + n)) - v10_21) →
          okL v12_28 ∧
          ((v12_28 < 0) →
            Lo2 (fun v14_32 v15_33 σ34 again37 =>
              ((n ≤ v15_33) →
                okI (v6_16 - 1) ∧
                K (v6_16 - 1) (mS σ34 u (j + n) (((σ34 u (j + n)) + v14_32) % 16777216))) ∧
              ((v15_33 < n) →
                (0 ≤ (j + v15_33) ∧ (j + v15_33) < ln u) ∧
                (0 ≤ v15_33 ∧ v15_33 < ln v) ∧
                ∀ v16_42 : Int, v16_42 = (((σ34 u (j + v15_33)) + (σ34 v v15_33)) + v14_32) →
                okI v16_42 ∧
                ∀ v14_45 : Int, v14_45 = (v16_42 / 16777216) →
                okI v14_45 ∧
                okI (v15_33 + 1) ∧
                again37 v14_45 (v15_33 + 1) (mS σ34 u (j + v15_33) (v16_42 % 16777216)))) 0 0 (mS σ23 u (j + n) (v12_28 % 16777216))) ∧
          ((0 ≤ v12_28) →
            okI v6_16 ∧
            K v6_16 (mS σ23 u (j + n) (v12_28 % 16777216)))) ∧
        ((v12_22 < n) →
          (0 ≤ (j + v12_22) ∧ (j + v12_22) < ln u) ∧
          okI (σ23 u (j + v12_22)) ∧
          (0 ≤ v12_22 ∧ v12_22 < ln v) ∧
          okI (σ23 v v12_22) ∧
          ∀ v13_54 : Int, v13_54 = (((σ23 u (j + v12_22)) - v10_21) - (v6_16 * (σ23 v v12_22))) →
          okL v13_54 ∧
          ∀ v10_57 : Int, v10_57 = (-(v13_54 / 16777216)) →
          okI (v12_22 + 1) ∧
          again25 v10_57 (v12_22 + 1) (mS σ23 u (j + v12_22) (v13_54 % 16777216)))) 0 0 σ)
    (fun J20 =>
      ((16777215 < v8_17) →
        J20) ∧
      ((v8_17 ≤ 16777215) →
        okL v6_16 ∧
        Jq0 (
          ∀ v6_63 : Int, v6_63 = (v6_16 - 1) →
          ∀ v8_65 : Int, v8_65 = (v8_17 + (σ v (n - 1))) →
          again18 v6_63 v8_65)
        (fun J62 =>
          ((16777215 < v6_16) →
            J62) ∧
          ((v6_16 ≤ 16777215) →
            (0 ≤ (n - 2) ∧ (n - 2) < ln v) ∧
            okI (σ v (n - 2)) ∧
            (0 ≤ ((j + n) - 2) ∧ ((j + n) - 2) < ln u) ∧
            okI (σ u ((j + n) - 2)) ∧
            okL (v6_16 * (σ v (n - 2))) ∧
            (((v6_16 * (σ v (n - 2))) ≤ (orL (v8_17 * 16777216) (σ u ((j + n) - 2)))) →
              J20) ∧
            (((orL (v8_17 * 16777216) (σ u ((j + n) - 2))) < (v6_16 * (σ v (n - 2)))) →
              J62)))))) v6_12 v8_14
def wp_n_more (t s : Int) (σ : Mem) (K : Mem → Prop) : Prop :=
  Lo1 (fun v2_1 σ2 again4 =>
    okI (σ2 t 1) ∧
    Jq0 (
      ((v2_1 ≠ (σ2 t 1)) →
        (0 ≤ v2_1 ∧ v2_1 < 600) ∧
        K (mS (mS σ2 (21 + t) v2_1 ((σ2 (21 + t) v2_1) + 1)) t 2 s)) ∧
      ((v2_1 = (σ2 t 1)) →
        (0 ≤ (σ2 t 1) ∧ (σ2 t 1) < 600) ∧
        K (mS (mS (mS σ2 t 1 ((σ2 t 1) + 1)) (21 + t) (σ2 t 1) 1) t 2 s)))
    (fun J6 =>
      (((σ2 t 1) ≤ v2_1) →
        J6) ∧
      ((v2_1 < (σ2 t 1)) →
        (0 ≤ v2_1 ∧ v2_1 < 600) ∧
        okI (σ2 (21 + t) v2_1) ∧
        (((σ2 (21 + t) v2_1) ≠ 16777215) →
          J6) ∧
        (((σ2 (21 + t) v2_1) = 16777215) →
          okI (v2_1 + 1) ∧
          again4 (v2_1 + 1) (mS σ2 (21 + t) v2_1 0))))) 0 σ
def wp_n_right (t a by_ : Int) (σ : Mem) (K : Mem → Prop) : Prop :=
  (0 ≤ by_ ∧ by_ ≤ 2147483647) ∧
  ∀ v3_2 : Int, v3_2 = (by_ / 24) →
  ∀ v4_4 : Int, v4_4 = (by_ % 24) →
  ∀ v5_7 : Int, v5_7 = ((σ a 1) - v3_2) →
  ∀ v6_9 : Int, v6_9 = (σ a 2) →
  Lq2 (fun v7_11 v8_12 again15 =>
    okI v3_2 ∧
    Jq0 (
      okI v5_7 ∧
      Jq1 (fun v7_19 => 
        Lo1 (fun v8_22 σ23 again25 =>
          ((v5_7 ≤ v8_22) →
            okI v6_9 ∧
            wp_n_trim t (if v5_7 < 0 then 0 else v5_7) v6_9 σ23 (fun σ28 =>
              ((0 ≤ v6_9) →
                K σ28) ∧
              ((v6_9 < 0) →
                ((v7_19 = 0) →
                  K σ28) ∧
                ((v7_19 ≠ 0) →
                  wp_n_more t (-1) σ28 (fun σ32 =>
                    K σ32))))) ∧
          ((v8_22 < v5_7) →
            (0 ≤ (v3_2 + v8_22) ∧ (v3_2 + v8_22) < 600) ∧
            (0 ≤ v4_4 ∧ v4_4 < 32) ∧
            okI (σ23 (21 + a) (v3_2 + v8_22)) ∧
            okI ((v3_2 + v8_22) + 1) ∧
            okI (σ23 a 1) ∧
            ((((v3_2 + v8_22) + 1) < (σ23 a 1)) → (0 ≤ ((v3_2 + v8_22) + 1) ∧ ((v3_2 + v8_22) + 1) < 600) ∧ (0 ≤ (24 - v4_4) ∧ (24 - v4_4) < 32) ∧ True) ∧
            ∀ s42 : Int, s42 = (if (σ23 a 1) ≤ ((v3_2 + v8_22) + 1) then 0 else (((σ23 (21 + a) ((v3_2 + v8_22) + 1)) * 2 ^ ((24 - v4_4)).toNat) % 16777216)) →
            (0 ≤ v8_22 ∧ v8_22 < 600) ∧
            okI (v8_22 + 1) ∧
            again25 (v8_22 + 1) (mS σ23 (21 + t) v8_22 (orI ((σ23 (21 + a) (v3_2 + v8_22)) / 2 ^ (v4_4).toNat) s42)))) 0 σ)
      (fun J21 =>
        ((v5_7 ≤ 0) →
          J21 v7_11) ∧
        ((0 < v5_7) →
          (0 ≤ v3_2 ∧ v3_2 < 600) ∧
          (0 ≤ v4_4 ∧ v4_4 < 32) ∧
          (((anI (σ (21 + a) v3_2) ((1 * 2 ^ (v4_4).toNat) - 1)) = 0) →
            J21 v7_11) ∧
          (((anI (σ (21 + a) v3_2) ((1 * 2 ^ (v4_4).toNat) - 1)) ≠ 0) →
            J21 1))))
    (fun J17 =>
      ((v3_2 ≤ v8_12) →
        J17) ∧
      ((v8_12 < v3_2) →
        okI (σ a 1) ∧
        (((σ a 1) ≤ v8_12) →
          J17) ∧
        ((v8_12 < (σ a 1)) →
          (0 ≤ v8_12 ∧ v8_12 < 600) ∧
          okI (σ (21 + a) v8_12) ∧
          Jq1 (fun v7_56 => 
            okI (v8_12 + 1) ∧
            again15 v7_56 (v8_12 + 1))
          (fun J58 =>
            (((σ (21 + a) v8_12) = 0) →
              J58 v7_11) ∧
            (((σ (21 + a) v8_12) ≠ 0) →
              J58 1)))))) 0 0
def wp_n_quotient (t a b rest work : Int) (σ : Mem) (K : Mem → Prop) : Prop :=
  ∀ v5_1 : Int, v5_1 = (σ b 1) →
  ∀ v6_3 : Int, v6_3 = ((σ a 1) - v5_1) →
  wp_n_limbs a b σ (fun r5 =>
    ((0 ≤ r5) →
      okI v5_1 ∧
      ((v5_1 ≠ 1) →
        (0 ≤ (v5_1 - 1) ∧ (v5_1 - 1) < 600) ∧
        okI (σ (21 + b) (v5_1 - 1)) ∧
        wp_jI_nlz (σ (21 + b) (v5_1 - 1)) σ (fun r12 =>
          ∀ v7_14 : Int, v7_14 = (r12 - 8) →
          okI v7_14 ∧
          wp_n_left work b v7_14 σ (fun σ17 =>
            wp_n_left rest a v7_14 σ17 (fun σ19 =>
              ∀ v8_21 : Int, v8_21 = (σ19 rest 1) →
              okI v8_21 ∧
              Lo1 (fun v8_23 σ25 again27 =>
                okI (σ25 a 1) ∧
                (((σ25 a 1) < v8_23) →
                  okI v6_3 ∧
                  Lo1 (fun v8_30 σ32 again34 =>
                    ((v8_30 < 0) →
                      okI (v6_3 + 1) ∧
                      okI ((σ32 a 2) * (σ32 b 2)) ∧
                      wp_n_trim t (v6_3 + 1) ((σ32 a 2) * (σ32 b 2)) σ32 (fun σ38 =>
                        wp_n_trim rest v5_1 1 σ38 (fun σ40 =>
                          wp_n_right rest rest v7_14 σ40 (fun σ42 =>
                            okI (σ42 rest 1) ∧
                            (((σ42 rest 1) ≤ 0) →
                              K σ42) ∧
                            ((0 < (σ42 rest 1)) →
                              K (mS σ42 rest 2 (σ42 a 2))))))) ∧
                    ((0 ≤ v8_30) →
                      wp_n_step (21 + rest) (21 + work) v8_30 v5_1 σ32 (fun r46 σ47 =>
                        (0 ≤ v8_30 ∧ v8_30 < 600) ∧
                        okI (v8_30 + (-1)) ∧
                        again34 (v8_30 + (-1)) (mS σ47 (21 + t) v8_30 r46)))) v6_3 σ25) ∧
                ((v8_23 ≤ (σ25 a 1)) →
                  (0 ≤ v8_23 ∧ v8_23 < 600) ∧
                  okI (v8_23 + 1) ∧
                  again27 (v8_23 + 1) (mS σ25 (21 + rest) v8_23 0))) v8_21 σ19)))) ∧
      ((v5_1 = 1) →
        okI (σ (21 + b) 0) ∧
        ∀ v9_55 : Int, v9_55 = (σ (21 + b) 0) →
        ∀ v11_58 : Int, v11_58 = ((σ a 1) - 1) →
        okI v11_58 ∧
        Lo2 (fun v7_60 v11_61 σ63 again65 =>
          ((v11_61 < 0) →
            okI (σ63 a 1) ∧
            okI ((σ63 a 2) * (σ63 b 2)) ∧
            wp_n_trim t (σ63 a 1) ((σ63 a 2) * (σ63 b 2)) σ63 (fun σ69 =>
              okI (σ69 a 2) ∧
              ∀ s73 : Int, s73 = (if 0 ≤ (σ69 a 2) then v7_60 else (-v7_60)) →
              okL s73 ∧
              wp_n_set rest s73 σ69 (fun σ76 =>
                K σ76))) ∧
          ((0 ≤ v11_61) →
            (0 ≤ v11_61 ∧ v11_61 < 600) ∧
            okI (σ63 (21 + a) v11_61) ∧
            ∀ v12_80 : Int, v12_80 = (orL (v7_60 * 16777216) (σ63 (21 + a) v11_61)) →
            (0 ≤ v12_80 ∧ v12_80 ≤ 9223372036854775807) ∧
            (0 < v9_55 ∧ v9_55 ≤ 9223372036854775807) ∧
            ∀ v7_85 : Int, v7_85 = (v12_80 % v9_55) →
            okI (v11_61 + (-1)) ∧
            again65 v7_85 (v11_61 + (-1)) (mS σ63 (21 + t) v11_61 (v12_80 / v9_55)))) 0 v11_58 σ)) ∧
    ((r5 < 0) →
      wp_n_take rest a σ (fun σ88 =>
        wp_n_trim t 0 0 σ88 (fun σ90 =>
          K σ90))))
def wp_n_floor (t a b rest work : Int) (σ : Mem) (K : Mem → Prop) : Prop :=
  wp_n_quotient t a b rest work σ (fun σ1 =>
    okI (σ1 rest 2) ∧
    (((σ1 rest 2) = 0) →
      K σ1) ∧
    (((σ1 rest 2) ≠ 0) →
      okI (σ1 b 2) ∧
      (((σ1 rest 2) ≠ (σ1 b 2)) →
        wp_n_sum rest rest b σ1 (fun σ7 =>
          wp_n_more t (-1) σ7 (fun σ9 =>
            K σ9))) ∧
      (((σ1 rest 2) = (σ1 b 2)) →
        K σ1)))
def wp_d_divide (p0 p1 p2 p3 p4 : Int) (σ : Mem) (K : Int → Mem → Prop) (X : Int → Mem → Prop) : Prop :=
  wp_d_at p1 σ (fun r1 =>
    wp_d_at p2 σ (fun r3 =>
      wp_d_at p3 σ (fun r5 =>
        wp_d_at p4 σ (fun r7 =>
          ∀ s10 : Int, s10 = (if p1 = p2 then 0 else 1) →
          wp_d_good s10 σ (
            okI (σ r7 2) ∧
            ∀ s16 : Int, s16 = (if (σ r7 2) = 0 then 0 else 1) →
            wp_d_fits s16 σ (
              Jo0 (fun σ20 => 
                wp_d_into r1 σ20 (fun r22 σ23 =>
                  wp_n_take r3 17 σ23 (fun σ25 =>
                    okI (σ25 r3 2) ∧
                    K (σ25 r3 2) σ25)) X)
              (fun J21 =>
                ((p0 = 0) →
                  wp_n_quotient 16 r5 r7 17 18 σ (fun σ29 =>
                    J21 σ29)) ∧
                ((p0 ≠ 0) →
                  wp_n_floor 16 r5 r7 17 18 σ (fun σ31 =>
                    J21 σ31)))) X) X) X) X) X) X
def wp_d_shift (p0 p1 p2 : Int) (σ : Mem) (K : Int → Mem → Prop) (X : Int → Mem → Prop) : Prop :=
  wp_d_at p0 σ (fun r1 =>
    wp_d_at p1 σ (fun r3 =>
      wp_d_in p2 (-4000) 4000 σ (fun r5 =>
        wp_d_good r5 σ (
          Jo0 (fun σ8 => 
            wp_d_into r1 σ8 (fun r10 σ11 =>
              wp_n_bits r10 σ11 (fun r13 =>
                K r13 σ11)) X)
          (fun J9 =>
            ((0 ≤ p2) →
              okI (σ r3 2) ∧
              Jq1 (fun s18 => 
                wp_d_fits s18 σ (
                  ∀ s23 : Int, s23 = (if (σ r3 2) ≠ 0 then p2 else 0) →
                  wp_n_left 16 r3 s23 σ (fun σ26 =>
                    J9 σ26)) X)
              (fun J20 =>
                Jq0 (
                  J20 1)
                (fun J29 =>
                  (((σ r3 2) = 0) →
                    J29) ∧
                  (((σ r3 2) ≠ 0) →
                    wp_n_bits r3 σ (fun r31 =>
                      okI (r31 + p2) ∧
                      ((2048 < (r31 + p2)) →
                        J20 0) ∧
                      (((r31 + p2) ≤ 2048) →
                        J29)))))) ∧
            ((p2 < 0) →
              okI (-p2) ∧
              wp_n_right 16 r3 (-p2) σ (fun σ37 =>
                J9 σ37)))) X)) X) X
def wp_n_endless (a k zeros : Int) (σ : Mem) (K : Int → Prop) : Prop :=
  okI (σ a 1) ∧
  ((k < (σ a 1)) → (0 ≤ k ∧ k < 600) ∧ True) ∧
  ∀ s4 : Int, s4 = (if (σ a 1) ≤ k then 0 else (σ (21 + a) k)) →
  okI (σ a 2) ∧
  (((σ a 2) < 0) →
    ((zeros = 0) →
      K ((-s4 - 1) % 16777216)) ∧
    ((zeros ≠ 0) →
      K ((-s4) % 16777216))) ∧
  ((0 ≤ (σ a 2)) →
    okI s4 ∧
    K s4)
def wp_n_bitwise (t how a b : Int) (σ : Mem) (K : Mem → Prop) : Prop :=
  okI (σ a 1) ∧
  okI (σ b 1) ∧
  ∀ v4_3 : Int, v4_3 = ((if (σ a 1) < (σ b 1) then (σ b 1) else (σ a 1)) + 1) →
  Jq1 (fun s5 => 
    ∀ s9 : Int, s9 = (if 0 ≤ s5 then 0 else 1) →
    Jq1 (fun v7_12 => 
      Lo4 (fun v5_15 v6_16 v8_17 v9_18 σ19 again24 =>
        okI v4_3 ∧
        ((v4_3 ≤ v9_18) →
          ∀ s28 : Int, s28 = (if v7_12 = 0 then 1 else (-1)) →
          wp_n_trim t v4_3 s28 σ19 (fun σ31 =>
            K σ31)) ∧
        ((v9_18 < v4_3) →
          wp_n_endless a v9_18 v5_15 σ19 (fun r33 =>
            wp_n_endless b v9_18 v6_16 σ19 (fun r35 =>
              Jq1 (fun s37 => 
                okI (σ19 a 1) ∧
                Jq1 (fun v5_41 => 
                  okI (σ19 b 1) ∧
                  Jq1 (fun v6_45 => 
                    Jq1 (fun s48 => 
                      (0 ≤ v9_18 ∧ v9_18 < 600) ∧
                      Jq1 (fun v8_52 => 
                        okI (v9_18 + 1) ∧
                        again24 v5_41 v6_45 v8_52 (v9_18 + 1) (mS σ19 (21 + t) v9_18 s48))
                      (fun J54 =>
                        ((s37 = 0) →
                          J54 v8_17) ∧
                        ((s37 ≠ 0) →
                          J54 0)))
                    (fun J50 =>
                      ((v7_12 ≠ 0) →
                        ((v8_17 = 0) →
                          J50 ((-s37 - 1) % 16777216)) ∧
                        ((v8_17 ≠ 0) →
                          J50 ((-s37) % 16777216))) ∧
                      ((v7_12 = 0) →
                        J50 s37)))
                  (fun J47 =>
                    (((σ19 b 1) ≤ v9_18) →
                      J47 v6_16) ∧
                    ((v9_18 < (σ19 b 1)) →
                      (0 ≤ v9_18 ∧ v9_18 < 600) ∧
                      okI (σ19 (21 + b) v9_18) ∧
                      (((σ19 (21 + b) v9_18) = 0) →
                        J47 v6_16) ∧
                      (((σ19 (21 + b) v9_18) ≠ 0) →
                        J47 0))))
                (fun J43 =>
                  (((σ19 a 1) ≤ v9_18) →
                    J43 v5_15) ∧
                  ((v9_18 < (σ19 a 1)) →
                    (0 ≤ v9_18 ∧ v9_18 < 600) ∧
                    okI (σ19 (21 + a) v9_18) ∧
                    (((σ19 (21 + a) v9_18) = 0) →
                      J43 v5_15) ∧
                    (((σ19 (21 + a) v9_18) ≠ 0) →
                      J43 0))))
              (fun J39 =>
                ((how ≠ 0) →
                  ((how ≠ 1) →
                    J39 (xoI r33 r35)) ∧
                  ((how = 1) →
                    J39 (orI r33 r35))) ∧
                ((how = 0) →
                  J39 (anI r33 r35))))))) 1 1 1 0 σ)
    (fun J14 =>
      ((how ≠ 2) →
        J14 s9) ∧
      ((how = 2) →
        okI (σ a 2) ∧
        ∀ s74 : Int, s74 = (if 0 ≤ (σ a 2) then 0 else 1) →
        okI (σ b 2) ∧
        ∀ s79 : Int, s79 = (if 0 ≤ (σ b 2) then 0 else 1) →
        ∀ s83 : Int, s83 = (if s74 = s79 then 0 else 1) →
        J14 s83)))
  (fun J7 =>
    ((how ≠ 0) →
      ((how ≠ 1) →
        J7 (xoI (σ a 2) (σ b 2))) ∧
      ((how = 1) →
        J7 (orI (σ a 2) (σ b 2)))) ∧
    ((how = 0) →
      J7 (anI (σ a 2) (σ b 2))))
def wp_d_bits (p0 p1 p2 p3 : Int) (σ : Mem) (K : Int → Mem → Prop) (X : Int → Mem → Prop) : Prop :=
  wp_d_at p1 σ (fun r1 =>
    wp_d_at p2 σ (fun r3 =>
      wp_d_at p3 σ (fun r5 =>
        wp_d_in p0 0 2 σ (fun r7 =>
          wp_d_good r7 σ (
            wp_n_bitwise 16 p0 r3 r5 σ (fun σ10 =>
              wp_d_into r1 σ10 (fun r12 σ13 =>
                okI (σ13 r12 2) ∧
                K (σ13 r12 2) σ13) X)) X)) X) X) X
def wp_jL_nlz (p0 : Int) (σ : Mem) (K : Int → Prop) : Prop :=
  ∀ v2_1 : Int, v2_1 = (p0 % 18446744073709551616 / 4294967296) →
  okI v2_1 ∧
  ((v2_1 ≠ 0) →
    wp_jI_nlz v2_1 σ (fun r5 =>
      K r5)) ∧
  ((v2_1 = 0) →
    okI p0 ∧
    wp_jI_nlz p0 σ (fun r9 =>
      okI (32 + r9) ∧
      K (32 + r9)))
def wp_n_power (t a pw most work : Int) (σ : Mem) (K : Int → Mem → Prop) : Prop :=
  wp_n_set t 1 σ (fun σ1 =>
    wp_n_bits a σ1 (fun r3 =>
      ((2 ≤ r3) →
        ((pw ≤ most) →
          wp_jL_nlz (orL pw 1) σ1 (fun r7 =>
            ∀ v6_9 : Int, v6_9 = (63 - r7) →
            okI v6_9 ∧
            Lo1 (fun v6_11 σ13 again15 =>
              ((v6_11 < 0) →
                K 1 σ13) ∧
              ((0 ≤ v6_11) →
                wp_n_product work t t σ13 (fun σ17 =>
                  wp_n_take t work σ17 (fun σ19 =>
                    (0 ≤ v6_11 ∧ v6_11 < 64) ∧
                    Jo0 (fun σ22 => 
                      wp_n_bits t σ22 (fun r24 =>
                        ((r24 ≤ most) →
                          okI (v6_11 + (-1)) ∧
                          again15 (v6_11 + (-1)) σ22) ∧
                        ((most < r24) →
                          K 0 σ22)))
                    (fun J23 =>
                      ((((pw / 2 ^ (v6_11).toNat) % 2) ≠ 1) →
                        J23 σ19) ∧
                      ((((pw / 2 ^ (v6_11).toNat) % 2) = 1) →
                        wp_n_product work t a σ19 (fun σ30 =>
                          wp_n_take t work σ30 (fun σ32 =>
                            J23 σ32)))))))) v6_9 σ1)) ∧
        ((most < pw) →
          K 0 σ1)) ∧
      ((r3 < 2) →
        ((pw ≤ 0) →
          K 1 σ1) ∧
        ((0 < pw) →
          okI (σ1 a 2) ∧
          Jq1 (fun s37 => 
            okL s37 ∧
            wp_n_set t s37 σ1 (fun σ40 =>
              K 1 σ40))
          (fun J38 =>
            Jq0 (
              J38 (σ1 a 2))
            (fun J42 =>
              ((0 ≤ (σ1 a 2)) →
                J42) ∧
              (((σ1 a 2) < 0) →
                (((pw % 2) ≠ 0) →
                  J42) ∧
                (((pw % 2) = 0) →
                  J38 1))))))))
def wp_d_power (p0 p1 p2 : Int) (σ : Mem) (K : Int → Mem → Prop) (X : Int → Mem → Prop) : Prop :=
  wp_d_at p0 σ (fun r1 =>
    wp_d_at p1 σ (fun r3 =>
      ∀ s6 : Int, s6 = (if p2 < 0 then 0 else 1) →
      wp_d_good s6 σ (
        wp_n_power 16 r3 p2 2048 18 σ (fun r10 σ11 =>
          wp_d_fits r10 σ11 (
            wp_d_into r1 σ11 (fun r14 σ15 =>
              wp_n_bits r14 σ15 (fun r17 =>
                K r17 σ15)) X) X)) X) X) X
def wp_d_residue (p0 p1 p2 p3 : Int) (σ : Mem) (K : Int → Mem → Prop) (X : Int → Mem → Prop) : Prop :=
  wp_d_at p0 σ (fun r1 =>
    wp_d_at p1 σ (fun r3 =>
      wp_d_at p2 σ (fun r5 =>
        wp_d_at p3 σ (fun r7 =>
          okI (σ r5 2) ∧
          ∀ s11 : Int, s11 = (if (σ r5 2) < 0 then 0 else 1) →
          wp_d_good s11 σ (
            okI (σ r7 2) ∧
            ∀ s17 : Int, s17 = (if (σ r7 2) = 0 then 0 else 1) →
            wp_d_fits s17 σ (
              wp_n_floor 19 r3 r7 20 18 σ (fun σ21 =>
                wp_n_set 17 1 σ21 (fun σ23 =>
                  wp_n_take 16 17 σ23 (fun σ25 =>
                    wp_n_floor 19 16 r7 17 18 σ25 (fun σ27 =>
                      wp_n_bits r5 σ27 (fun r29 =>
                        ∀ v9_31 : Int, v9_31 = (r29 - 1) →
                        okI v9_31 ∧
                        Lo1 (fun v9_33 σ35 again37 =>
                          ((v9_33 < 0) →
                            wp_n_take r1 17 σ35 (fun σ39 =>
                              okI (σ39 r1 2) ∧
                              K (σ39 r1 2) σ39)) ∧
                          ((0 ≤ v9_33) →
                            wp_n_product 16 17 17 σ35 (fun σ42 =>
                              wp_n_floor 19 16 r7 17 18 σ42 (fun σ44 =>
                                (0 ≤ v9_33 ∧ v9_33 ≤ 2147483647) ∧
                                (0 ≤ (v9_33 / 24) ∧ (v9_33 / 24) < 600) ∧
                                (0 ≤ (v9_33 % 24) ∧ (v9_33 % 24) < 32) ∧
                                okI (σ44 (21 + r5) (v9_33 / 24)) ∧
                                Jo0 (fun σ50 => 
                                  okI (v9_33 + (-1)) ∧
                                  again37 (v9_33 + (-1)) σ50)
                                (fun J51 =>
                                  (((((σ44 (21 + r5) (v9_33 / 24)) / 2 ^ ((v9_33 % 24)).toNat) % 2) ≠ 1) →
                                    J51 σ44) ∧
                                  (((((σ44 (21 + r5) (v9_33 / 24)) / 2 ^ ((v9_33 % 24)).toNat) % 2) = 1) →
                                    wp_n_product 16 17 20 σ44 (fun σ54 =>
                                      wp_n_floor 19 16 r7 17 18 σ54 (fun σ56 =>
                                        J51 σ56)))))))) v9_31 σ27)))))) X) X) X) X) X) X
def wp_n_compare (t o : Int) (σ : Mem) (K : Int → Prop) : Prop :=
  okI (σ t 2) ∧
  okI (σ o 2) ∧
  (((σ t 2) = (σ o 2)) →
    wp_n_limbs t o σ (fun r4 =>
      okI ((σ t 2) * r4) ∧
      K ((σ t 2) * r4))) ∧
  (((σ t 2) ≠ (σ o 2)) →
    ∀ s9 : Int, s9 = (if (σ o 2) ≤ (σ t 2) then 1 else (-1)) →
    K s9)
def wp_d_compare (p0 p1 : Int) (σ : Mem) (K : Int → Prop) (X : Int → Mem → Prop) : Prop :=
  wp_d_at p0 σ (fun r1 =>
    wp_d_at p1 σ (fun r3 =>
      wp_n_compare r1 r3 σ (fun r5 =>
        K r5)) X) X
def wp_n_fits (t : Int) (σ : Mem) (K : Int → Prop) : Prop :=
  wp_n_bits t σ (fun r1 =>
    Jq0 (
      K 1)
    (fun J3 =>
      ((r1 < 64) →
        J3) ∧
      ((64 ≤ r1) →
        okI (σ t 2) ∧
        Jq0 (
          K 0)
        (fun J6 =>
          ((0 ≤ (σ t 2)) →
            J6) ∧
          (((σ t 2) < 0) →
            wp_n_bits t σ (fun r8 =>
              ((r8 ≠ 64) →
                J6) ∧
              ((r8 = 64) →
                okI (σ (21 + t) 0) ∧
                (((σ (21 + t) 0) ≠ 0) →
                  J6) ∧
                (((σ (21 + t) 0) = 0) →
                  okI (σ (21 + t) 1) ∧
                  (((σ (21 + t) 1) ≠ 0) →
                    J6) ∧
                  (((σ (21 + t) 1) = 0) →
                    okI (σ (21 + t) 2) ∧
                    (((σ (21 + t) 2) ≠ 32768) →
                      J6) ∧
                    (((σ (21 + t) 2) = 32768) →
                      J3))))))))))
def wp_n_small (t : Int) (σ : Mem) (K : Int → Prop) : Prop :=
  okI (σ t 1) ∧
  ∀ v3_2 : Int, v3_2 = ((if 3 < (σ t 1) then 3 else (σ t 1)) - 1) →
  okI v3_2 ∧
  Lq2 (fun v1_4 v3_5 again8 =>
    ((v3_5 < 0) →
      okI (σ t 2) ∧
      ∀ s12 : Int, s12 = (if 0 ≤ (σ t 2) then v1_4 else (-v1_4)) →
      okL s12 ∧
      K s12) ∧
    ((0 ≤ v3_5) →
      (0 ≤ v3_5 ∧ v3_5 < 600) ∧
      okI (σ (21 + t) v3_5) ∧
      ∀ v1_17 : Int, v1_17 = (orL (v1_4 * 16777216) (σ (21 + t) v3_5)) →
      okI (v3_5 + (-1)) ∧
      again8 v1_17 (v3_5 + (-1)))) 0 v3_2
def wp_d_small (p0 : Int) (σ : Mem) (K : Int → Prop) (X : Int → Mem → Prop) : Prop :=
  wp_d_at p0 σ (fun r1 =>
    wp_n_fits r1 σ (fun r3 =>
      wp_d_fits r3 σ (
        wp_n_small r1 σ (fun r6 =>
          K r6)) X)) X
def wp_d_low (p0 : Int) (σ : Mem) (K : Int → Prop) (X : Int → Mem → Prop) : Prop :=
  wp_d_at p0 σ (fun r1 =>
    wp_n_small r1 σ (fun r3 =>
      K r3)) X
def wp_n_folded (t : Int) (σ : Mem) (K : Int → Prop) : Prop :=
  ∀ v5_1 : Int, v5_1 = ((σ t 1) - 1) →
  okI v5_1 ∧
  Lq2 (fun v3_3 v5_4 again7 =>
    ((v5_4 < 0) →
      okI (σ t 2) ∧
      ∀ s11 : Int, s11 = (if 0 ≤ (σ t 2) then v3_3 else (-v3_3)) →
      okL s11 ∧
      K s11) ∧
    ((0 ≤ v5_4) →
      (0 ≤ v5_4 ∧ v5_4 < 600) ∧
      okI (σ (21 + t) v5_4) ∧
      ∀ v3_16 : Int, v3_16 = ((((v3_3 * 16777216) % 2305843009213693952) + (v3_3 % 18446744073709551616 / 137438953472)) + (σ (21 + t) v5_4)) →
      Lq1 (fun v3_18 again19 =>
        okL v3_18 ∧
        ((v3_18 < 2305843009213693951) →
          okI (v5_4 + (-1)) ∧
          again7 v3_18 (v5_4 + (-1))) ∧
        ((2305843009213693951 ≤ v3_18) →
          ∀ v3_23 : Int, v3_23 = (v3_18 - 2305843009213693951) →
          again19 v3_23)) v3_16)) 0 v5_1
def wp_d_folded (p0 : Int) (σ : Mem) (K : Int → Prop) (X : Int → Mem → Prop) : Prop :=
  wp_d_at p0 σ (fun r1 =>
    wp_n_folded r1 σ (fun r3 =>
      K r3)) X
def wp_d_size (p0 : Int) (σ : Mem) (K : Int → Prop) (X : Int → Mem → Prop) : Prop :=
  wp_d_at p0 σ (fun r1 =>
    wp_n_bits r1 σ (fun r3 =>
      K r3)) X
def wp_m_thrown (σ : Mem) (K : Int → Prop) : Prop :=
  okI (σ 45 0) ∧
  K (σ 45 0)
def wp_m_compared (p0 p1 p2 p3 : Int) (σ : Mem) (K : Int → Prop) : Prop :=
  ((p1 = p3) →
    ∀ v4_2 : Int, v4_2 = (p1 - 1) →
    okI v4_2 ∧
    Lq1 (fun v4_4 again7 =>
      ((v4_4 < 0) →
        K 0) ∧
      ((0 ≤ v4_4) →
        (0 ≤ v4_4 ∧ v4_4 < ln p0) ∧
        (0 ≤ v4_4 ∧ v4_4 < ln p2) ∧
        okI (σ p0 v4_4) ∧
        okI (σ p2 v4_4) ∧
        (((σ p0 v4_4) = (σ p2 v4_4)) →
          okI (v4_4 + (-1)) ∧
          again7 (v4_4 + (-1))) ∧
        (((σ p0 v4_4) ≠ (σ p2 v4_4)) →
          ∀ s16 : Int, s16 = (if (σ p2 v4_4) ≤ (σ p0 v4_4) then 1 else (-1)) →
          K s16))) v4_2) ∧
  ((p1 ≠ p3) →
    ∀ s20 : Int, s20 = (if p3 ≤ p1 then 1 else (-1)) →
    K s20)
def wp_m_trim (p0 p1 : Int) (σ : Mem) (K : Int → Prop) : Prop :=
  Lq1 (fun v2_1 again3 =>
    ((v2_1 ≤ 0) →
      K v2_1) ∧
    ((0 < v2_1) →
      (0 ≤ (v2_1 - 1) ∧ (v2_1 - 1) < ln p0) ∧
      okI (σ p0 (v2_1 - 1)) ∧
      (((σ p0 (v2_1 - 1)) ≠ 0) →
        K v2_1) ∧
      (((σ p0 (v2_1 - 1)) = 0) →
        okI (v2_1 + (-1)) ∧
        again3 (v2_1 + (-1))))) p1
def wp_m_plus (p0 p1 p2 p3 p4 : Int) (σ : Mem) (K : Int → Mem → Prop) : Prop :=
  ∀ s2 : Int, s2 = (if p1 ≤ p3 then p3 else p1) →
  Lo2 (fun v5_5 v7_6 σ7 again10 =>
    ((s2 ≤ v7_6) →
      (0 ≤ s2 ∧ s2 < ln p4) ∧
      okI (s2 + 1) ∧
      wp_m_trim p4 (s2 + 1) (mS σ7 p4 s2 v5_5) (fun r14 =>
        K r14 (mS σ7 p4 s2 v5_5))) ∧
    ((v7_6 < s2) →
      ((v7_6 < p1) → (0 ≤ v7_6 ∧ v7_6 < ln p0) ∧ True) ∧
      ∀ s19 : Int, s19 = (if p1 ≤ v7_6 then 0 else (σ7 p0 v7_6)) →
      ((v7_6 < p3) → (0 ≤ v7_6 ∧ v7_6 < ln p2) ∧ True) ∧
      ∀ s24 : Int, s24 = (if p3 ≤ v7_6 then 0 else (σ7 p2 v7_6)) →
      ∀ v5_27 : Int, v5_27 = (v5_5 + (s19 + s24)) →
      (0 ≤ v7_6 ∧ v7_6 < ln p4) ∧
      okI v5_27 ∧
      ∀ v5_31 : Int, v5_31 = (v5_27 / 65536) →
      okI v5_31 ∧
      okI (v7_6 + 1) ∧
      again10 v5_31 (v7_6 + 1) (mS σ7 p4 v7_6 (v5_27 % 65536)))) 0 0 σ
def wp_m_less (p0 p1 p2 p3 p4 : Int) (σ : Mem) (K : Int → Mem → Prop) : Prop :=
  Lo2 (fun v5_1 v6_2 σ3 again6 =>
    ((p1 ≤ v6_2) →
      wp_m_trim p4 p1 σ3 (fun r8 =>
        K r8 σ3)) ∧
    ((v6_2 < p1) →
      (0 ≤ v6_2 ∧ v6_2 < ln p0) ∧
      ((v6_2 < p3) → (0 ≤ v6_2 ∧ v6_2 < ln p2) ∧ True) ∧
      ∀ s14 : Int, s14 = (if p3 ≤ v6_2 then 0 else (σ3 p2 v6_2)) →
      ∀ v5_17 : Int, v5_17 = (v5_1 + ((σ3 p0 v6_2) - s14)) →
      (0 ≤ v6_2 ∧ v6_2 < ln p4) ∧
      okI v5_17 ∧
      ∀ v5_21 : Int, v5_21 = (v5_17 / 65536) →
      okI v5_21 ∧
      okI (v6_2 + 1) ∧
      again6 v5_21 (v6_2 + 1) (mS σ3 p4 v6_2 (v5_17 % 65536)))) 0 0 σ
def wp_m_times (p0 p1 p2 p3 p4 : Int) (σ : Mem) (K : Int → Mem → Prop) : Prop :=
  Lo1 (fun v5_1 σ2 again4 =>
    okI (p1 + p3) ∧
    (((p1 + p3) ≤ v5_1) →
      Lo1 (fun v5_7 σ8 again10 =>
        ((p1 ≤ v5_7) →
          wp_m_trim p4 (p1 + p3) σ8 (fun r12 =>
            K r12 σ8)) ∧
        ((v5_7 < p1) →
          Lo2 (fun v6_15 v8_16 σ17 again19 =>
            ((p3 ≤ v8_16) →
              (0 ≤ (v5_7 + p3) ∧ (v5_7 + p3) < ln p4) ∧
              okI (v5_7 + 1) ∧
              again10 (v5_7 + 1) (mS σ17 p4 (v5_7 + p3) v6_15)) ∧
            ((v8_16 < p3) →
              (0 ≤ v5_7 ∧ v5_7 < ln p0) ∧
              okI (σ17 p0 v5_7) ∧
              (0 ≤ v8_16 ∧ v8_16 < ln p2) ∧
              okI (σ17 p2 v8_16) ∧
              (0 ≤ (v5_7 + v8_16) ∧ (v5_7 + v8_16) < ln p4) ∧
              okI (σ17 p4 (v5_7 + v8_16)) ∧
              ∀ v6_29 : Int, v6_29 = (v6_15 + (((σ17 p0 v5_7) * (σ17 p2 v8_16)) + (σ17 p4 (v5_7 + v8_16)))) →
              ∀ v6_31 : Int, v6_31 = (v6_29 % 18446744073709551616 / 65536) →
              okI (v8_16 + 1) ∧
              again19 v6_31 (v8_16 + 1) (mS σ17 p4 (v5_7 + v8_16) (v6_29 % 65536)))) 0 0 σ8)) 0 σ2) ∧
    ((v5_1 < (p1 + p3)) →
      (0 ≤ v5_1 ∧ v5_1 < ln p4) ∧
      okI (v5_1 + 1) ∧
      again4 (v5_1 + 1) (mS σ2 p4 v5_1 0))) 0 σ
def wp_m_divided (p0 p1 p2 p3 p4 : Int) (σ : Mem) (K : Int → Mem → Prop) : Prop :=
  wp_m_compared p0 p1 p2 p3 σ (fun r1 =>
    ((0 ≤ r1) →
      ((p3 ≠ 1) →
        (0 ≤ (p3 - 1) ∧ (p3 - 1) < ln p2) ∧
        ∀ v7_6 : Int, v7_6 = (σ p2 (p3 - 1)) →
        okI v7_6 ∧
        Lq2 (fun v6_8 v7_9 again13 =>
          ((32768 ≤ v7_9) →
            ∀ v7_15 : Int, v7_15 = (p3 - 1) →
            Lo1 (fun v7_18 σ19 again21 =>
              ((v7_18 < 0) →
                (0 ≤ p1 ∧ p1 < ln p0) ∧
                Lo1 (fun v7_24 σ25 again27 =>
                  ((v7_24 < 0) →
                    ∀ v7_29 : Int, v7_29 = (p1 - p3) →
                    okI v7_29 ∧
                    Lo1 (fun v7_31 σ33 again35 =>
                      ((v7_31 < 0) →
                        okI ((p1 - p3) + 1) ∧
                        wp_m_trim p4 ((p1 - p3) + 1) σ33 (fun r38 =>
                          Lo1 (fun v7_40 σ41 again43 =>
                            ((p3 ≤ v7_40) →
                              wp_m_trim p0 p3 σ41 (fun r45 =>
                                K r45 σ41)) ∧
                            ((v7_40 < p3) →
                              (0 ≤ v7_40 ∧ v7_40 < ln p0) ∧
                              (0 ≤ v6_8 ∧ v6_8 < 32) ∧
                              okI (σ41 p0 v7_40) ∧
                              okI (v7_40 + 1) ∧
                              (((v7_40 + 1) ≤ p3) → (0 ≤ (v7_40 + 1) ∧ (v7_40 + 1) < ln p0) ∧ (0 ≤ (16 - v6_8) ∧ (16 - v6_8) < 32) ∧ True) ∧
                              ∀ s55 : Int, s55 = (if p3 < (v7_40 + 1) then 0 else ((σ41 p0 (v7_40 + 1)) * 2 ^ ((16 - v6_8)).toNat)) →
                              again43 (v7_40 + 1) (mS σ41 p0 v7_40 ((orI ((σ41 p0 v7_40) / 2 ^ (v6_8).toNat) s55) % 65536)))) 0 (mS σ33 45 12 r38))) ∧
                      ((0 ≤ v7_31) →
                        (0 ≤ (v7_31 + p3) ∧ (v7_31 + p3) < ln p0) ∧
                        okI (σ33 p0 (v7_31 + p3)) ∧
                        (0 ≤ ((v7_31 + p3) - 1) ∧ ((v7_31 + p3) - 1) < ln p0) ∧
                        okI (σ33 p0 ((v7_31 + p3) - 1)) ∧
                        ∀ v8_63 : Int, v8_63 = (orL ((σ33 p0 (v7_31 + p3)) * 65536) (σ33 p0 ((v7_31 + p3) - 1))) →
                        (0 ≤ (p3 - 1) ∧ (p3 - 1) < 9000) ∧
                        okI (σ33 56 (p3 - 1)) ∧
                        (0 ≤ v8_63 ∧ v8_63 ≤ 9223372036854775807) ∧
                        (0 < (σ33 56 (p3 - 1)) ∧ (σ33 56 (p3 - 1)) ≤ 9223372036854775807) ∧
                        ∀ v10_70 : Int, v10_70 = (v8_63 / (σ33 56 (p3 - 1))) →
                        ∀ v12_72 : Int, v12_72 = (v8_63 % (σ33 56 (p3 - 1))) →
                        Lq2 (fun v10_74 v12_75 again76 =>
                          okL v10_74 ∧
                          Jq1 (fun v10_78 => 
                            Lo2 (fun v14_80 v16_81 σ82 again84 =>
                              ((p3 ≤ v16_81) →
                                okI (σ82 p0 (v7_31 + p3)) ∧
                                ∀ v14_87 : Int, v14_87 = (v14_80 + (σ82 p0 (v7_31 + p3))) →
                                okL v14_87 ∧
                                Jo1 (fun v10_90 σ91 => 
                                  (0 ≤ v7_31 ∧ v7_31 < ln p4) ∧
                                  okI (v7_31 + (-1)) ∧
                                  again35 (v7_31 + (-1)) (mS σ91 p4 v7_31 v10_90))
                                (fun J92 =>
                                  ((0 ≤ v14_87) →
                                    J92 v10_78 (mS σ82 p0 (v7_31 + p3) (v14_87 % 65536))) ∧
                                  ((v14_87 < 0) →
                                    ∀ v10_96 : Int, v10_96 = (v10_78 - 1) →
                                    Lo2 (fun v16_98 v17_99 σ100 again103 =>
                                      ((p3 ≤ v17_99) →
                                        J92 v10_96 (mS σ100 p0 (v7_31 + p3) (((σ100 p0 (v7_31 + p3)) + v16_98) % 65536))) ∧
                                      ((v17_99 < p3) →
                                        (0 ≤ (v7_31 + v17_99) ∧ (v7_31 + v17_99) < ln p0) ∧
                                        (0 ≤ v17_99 ∧ v17_99 < 9000) ∧
                                        ∀ v16_107 : Int, v16_107 = (v16_98 + ((σ100 p0 (v7_31 + v17_99)) + (σ100 56 v17_99))) →
                                        okI v16_107 ∧
                                        ∀ v16_110 : Int, v16_110 = (v16_107 / 65536) →
                                        okI v16_110 ∧
                                        okI (v17_99 + 1) ∧
                                        again103 v16_110 (v17_99 + 1) (mS σ100 p0 (v7_31 + v17_99) (v16_107 % 65536)))) 0 0 (mS σ82 p0 (v7_31 + p3) (v14_87 % 65536))))) ∧
                              ((v16_81 < p3) →
                                (0 ≤ (v7_31 + v16_81) ∧ (v7_31 + v16_81) < ln p0) ∧
                                okI (σ82 p0 (v7_31 + v16_81)) ∧
                                (0 ≤ v16_81 ∧ v16_81 < 9000) ∧
                                okI (σ82 56 v16_81) ∧
                                ∀ v14_118 : Int, v14_118 = (v14_80 + ((σ82 p0 (v7_31 + v16_81)) - (v10_78 * (σ82 56 v16_81)))) →
                                okL v14_118 ∧
                                ∀ v14_121 : Int, v14_121 = (v14_118 / 65536) →
                                okI (v16_81 + 1) ∧
                                again84 v14_121 (v16_81 + 1) (mS σ82 p0 (v7_31 + v16_81) (v14_118 % 65536)))) 0 0 σ33)
                          (fun J79 =>
                            Jq0 (
                              ∀ v10_125 : Int, v10_125 = (v10_74 - 1) →
                              ∀ v12_127 : Int, v12_127 = (v12_75 + (σ33 56 (p3 - 1))) →
                              okL v12_127 ∧
                              ((v12_127 ≤ 65535) →
                                again76 v10_125 v12_127) ∧
                              ((65535 < v12_127) →
                                J79 v10_125))
                            (fun J124 =>
                              ((65535 < v10_74) →
                                J124) ∧
                              ((v10_74 ≤ 65535) →
                                (0 ≤ (p3 - 2) ∧ (p3 - 2) < 9000) ∧
                                okI (σ33 56 (p3 - 2)) ∧
                                (0 ≤ ((v7_31 + p3) - 2) ∧ ((v7_31 + p3) - 2) < ln p0) ∧
                                okI (σ33 p0 ((v7_31 + p3) - 2)) ∧
                                okL (v10_74 * (σ33 56 (p3 - 2))) ∧
                                (((v10_74 * (σ33 56 (p3 - 2))) ≤ (orL (v12_75 * 65536) (σ33 p0 ((v7_31 + p3) - 2)))) →
                                  J79 v10_74) ∧
                                (((orL (v12_75 * 65536) (σ33 p0 ((v7_31 + p3) - 2))) < (v10_74 * (σ33 56 (p3 - 2)))) →
                                  J124))))) v10_70 v12_72)) v7_29 σ25) ∧
                  ((0 ≤ v7_24) →
                    (0 ≤ v7_24 ∧ v7_24 < ln p0) ∧
                    (0 ≤ v6_8 ∧ v6_8 < 32) ∧
                    ((0 < v7_24) → (0 ≤ (v7_24 - 1) ∧ (v7_24 - 1) < ln p0) ∧ (0 ≤ (16 - v6_8) ∧ (16 - v6_8) < 32) ∧ okI (σ25 p0 (v7_24 - 1)) ∧ True) ∧
                    ∀ s144 : Int, s144 = (if v7_24 ≤ 0 then 0 else ((σ25 p0 (v7_24 - 1)) / 2 ^ ((16 - v6_8)).toNat)) →
                    okI (v7_24 + (-1)) ∧
                    again27 (v7_24 + (-1)) (mS σ25 p0 v7_24 ((orI ((σ25 p0 v7_24) * 2 ^ (v6_8).toNat) s144) % 65536)))) p1 (mS σ19 p0 p1 0)) ∧
              ((0 ≤ v7_18) →
                (0 ≤ v7_18 ∧ v7_18 < ln p2) ∧
                (0 ≤ v6_8 ∧ v6_8 < 32) ∧
                ((0 < v7_18) → (0 ≤ (v7_18 - 1) ∧ (v7_18 - 1) < ln p2) ∧ (0 ≤ (16 - v6_8) ∧ (16 - v6_8) < 32) ∧ okI (σ19 p2 (v7_18 - 1)) ∧ True) ∧
                ∀ s154 : Int, s154 = (if v7_18 ≤ 0 then 0 else ((σ19 p2 (v7_18 - 1)) / 2 ^ ((16 - v6_8)).toNat)) →
                (0 ≤ v7_18 ∧ v7_18 < 9000) ∧
                okI (v7_18 + (-1)) ∧
                again21 (v7_18 + (-1)) (mS σ19 56 v7_18 ((orI ((σ19 p2 v7_18) * 2 ^ (v6_8).toNat) s154) % 65536)))) v7_15 σ) ∧
          ((v7_9 < 32768) →
            ∀ v7_159 : Int, v7_159 = (v7_9 * 2) →
            okI (v6_8 + 1) ∧
            okI v7_159 ∧
            again13 (v6_8 + 1) v7_159)) 0 v7_6) ∧
      ((p3 = 1) →
        ∀ v8_163 : Int, v8_163 = (p1 - 1) →
        okI v8_163 ∧
        Lo2 (fun v6_165 v8_166 σ168 again170 =>
          ((v8_166 < 0) →
            wp_m_trim p4 p1 σ168 (fun r172 =>
              (0 ≤ (0 : Int) ∧ 0 < ln p0) ∧
              wp_m_trim p0 1 (mS (mS σ168 45 12 r172) p0 0 v6_165) (fun r175 =>
                K r175 (mS (mS σ168 45 12 r172) p0 0 v6_165)))) ∧
          ((0 ≤ v8_166) →
            (0 ≤ v8_166 ∧ v8_166 < ln p0) ∧
            okI (σ168 p0 v8_166) ∧
            ∀ v6_181 : Int, v6_181 = (orL (v6_165 * 65536) (σ168 p0 v8_166)) →
            (0 ≤ (0 : Int) ∧ 0 < ln p2) ∧
            okI (σ168 p2 0) ∧
            (0 ≤ v6_181 ∧ v6_181 ≤ 9223372036854775807) ∧
            (0 < (σ168 p2 0) ∧ (σ168 p2 0) ≤ 9223372036854775807) ∧
            (0 ≤ v8_166 ∧ v8_166 < ln p4) ∧
            okI ((mS σ168 p4 v8_166 (v6_181 / (σ168 p2 0))) p2 0) ∧
            (0 < ((mS σ168 p4 v8_166 (v6_181 / (σ168 p2 0))) p2 0) ∧ ((mS σ168 p4 v8_166 (v6_181 / (σ168 p2 0))) p2 0) ≤ 9223372036854775807) ∧
            ∀ v6_191 : Int, v6_191 = (v6_181 % ((mS σ168 p4 v8_166 (v6_181 / (σ168 p2 0))) p2 0)) →
            okI (v8_166 + (-1)) ∧
            again170 v6_191 (v8_166 + (-1)) (mS (mS σ168 p4 v8_166 (v6_181 / (σ168 p2 0))) p0 v8_166 0))) 0 v8_163 σ)) ∧
    ((r1 < 0) →
      K p1 (mS σ 45 12 0)))
def wp_m_shiftedLeft (p0 p1 p2 p3 : Int) (σ : Mem) (K : Int → Mem → Prop) : Prop :=
  ∀ v4_1 : Int, v4_1 = (p2 / 16) →
  ∀ v5_3 : Int, v5_3 = (p2 % 16) →
  (0 ≤ (p1 + v4_1) ∧ (p1 + v4_1) < ln p3) ∧
  Lo1 (fun v6_7 σ8 again10 =>
    ((v6_7 < 0) →
      Lo1 (fun v6_12 σ13 again15 =>
        okI v4_1 ∧
        ((v4_1 ≤ v6_12) →
          okI ((p1 + v4_1) + 1) ∧
          wp_m_trim p3 ((p1 + v4_1) + 1) σ13 (fun r19 =>
            K r19 σ13)) ∧
        ((v6_12 < v4_1) →
          (0 ≤ v6_12 ∧ v6_12 < ln p3) ∧
          okI (v6_12 + 1) ∧
          again15 (v6_12 + 1) (mS σ13 p3 v6_12 0))) 0 σ8) ∧
    ((0 ≤ v6_7) →
      ((v6_7 < p1) → (0 ≤ v6_7 ∧ v6_7 < ln p0) ∧ (0 ≤ v5_3 ∧ v5_3 < 32) ∧ True) ∧
      ∀ s27 : Int, s27 = (if p1 ≤ v6_7 then 0 else ((σ8 p0 v6_7) * 2 ^ (v5_3).toNat)) →
      ((0 < v6_7) → (0 ≤ (v6_7 - 1) ∧ (v6_7 - 1) < ln p0) ∧ (0 ≤ (16 - v5_3) ∧ (16 - v5_3) < 32) ∧ okI (σ8 p0 (v6_7 - 1)) ∧ True) ∧
      ∀ s34 : Int, s34 = (if v6_7 ≤ 0 then 0 else ((σ8 p0 (v6_7 - 1)) / 2 ^ ((16 - v5_3)).toNat)) →
      (0 ≤ (v6_7 + v4_1) ∧ (v6_7 + v4_1) < ln p3) ∧
      okI (v6_7 + (-1)) ∧
      again10 (v6_7 + (-1)) (mS σ8 p3 (v6_7 + v4_1) ((orI s27 s34) % 65536)))) p1 (mS σ p3 (p1 + v4_1) 0)
def wp_m_isBit (p0 p1 p2 : Int) (σ : Mem) (K : Int → Prop) : Prop :=
  Jq0 (
    K 0)
  (fun J1 =>
    ((p2 < 0) →
      J1) ∧
    ((0 ≤ p2) →
      okI (p2 / 16) ∧
      ((p1 ≤ (p2 / 16)) →
        J1) ∧
      (((p2 / 16) < p1) →
        (0 ≤ (p2 / 16) ∧ (p2 / 16) < ln p0) ∧
        (0 ≤ (p2 % 16) ∧ (p2 % 16) < 32) ∧
        okI (σ p0 (p2 / 16)) ∧
        (((((σ p0 (p2 / 16)) / 2 ^ ((p2 % 16)).toNat) % 2) = 0) →
          J1) ∧
        (((((σ p0 (p2 / 16)) / 2 ^ ((p2 % 16)).toNat) % 2) ≠ 0) →
          K 1))))
def wp_m_in (p0 p1 p2 : Int) (σ : Mem) (K : Int → Prop) : Prop :=
  Jq0 (
    K 0)
  (fun J1 =>
    ((p0 < p1) →
      J1) ∧
    ((p1 ≤ p0) →
      ((p2 < p0) →
        J1) ∧
      ((p0 ≤ p2) →
        K 1)))
def wp_m_fails (p0 p1 : Int) (σ : Mem) (K : Int → Mem → Prop) : Prop :=
  Jo0 (fun σ1 => 
    okI (σ1 45 0) ∧
    ∀ s5 : Int, s5 = (if (σ1 45 0) = 0 then 0 else 1) →
    (s5 = 0 ∨ s5 = 1) ∧
    K s5 σ1)
  (fun J2 =>
    ((p0 = 0) →
      J2 σ) ∧
    ((p0 ≠ 0) →
      okI (σ 45 0) ∧
      (((σ 45 0) ≠ 0) →
        J2 σ) ∧
      (((σ 45 0) = 0) →
        J2 (mS σ 45 0 p1))))
def wp_m_isRegister (p0 : Int) (σ : Mem) (K : Int → Prop) : Prop :=
  wp_m_in p0 0 15 σ (fun r1 =>
    K r1)
def wp_m_load (p0 p1 : Int) (σ : Mem) (K : Int → Mem → Prop) : Prop :=
  Lo1 (fun v3_1 σ2 again4 =>
    (0 ≤ p0 ∧ p0 < 16) ∧
    okI (σ2 47 p0) ∧
    (((σ2 47 p0) ≤ v3_1) →
      K (σ2 47 p0) σ2) ∧
    ((v3_1 < (σ2 47 p0)) →
      (0 ≤ ((129 * p0) + v3_1) ∧ ((129 * p0) + v3_1) < 2064) ∧
      (0 ≤ v3_1 ∧ v3_1 < ln p1) ∧
      okI (v3_1 + 1) ∧
      again4 (v3_1 + 1) (mS σ2 p1 v3_1 (σ2 46 ((129 * p0) + v3_1))))) 0 σ
def wp_m_bits0 (p0 p1 : Int) (σ : Mem) (K : Int → Prop) : Prop :=
  ((p1 ≠ 0) →
    ∀ v2_2 : Int, v2_2 = (16 * (p1 - 1)) →
    (0 ≤ (p1 - 1) ∧ (p1 - 1) < ln p0) ∧
    ∀ v3_5 : Int, v3_5 = (σ p0 (p1 - 1)) →
    okI v2_2 ∧
    okI v3_5 ∧
    Lq2 (fun v2_7 v3_9 again13 =>
      ((v3_9 = 0) →
        K v2_7) ∧
      ((v3_9 ≠ 0) →
        (0 ≤ v3_9 ∧ v3_9 ≤ 2147483647) ∧
        ∀ v3_16 : Int, v3_16 = (v3_9 / 2) →
        okI (v2_7 + 1) ∧
        okI v3_16 ∧
        again13 (v2_7 + 1) v3_16)) v2_2 v3_5) ∧
  ((p1 = 0) →
    K 0)
def wp_m_size0 (p0 : Int) (σ : Mem) (K : Int → Mem → Prop) : Prop :=
  wp_m_load p0 55 σ (fun r1 σ2 =>
    wp_m_bits0 55 r1 σ2 (fun r4 =>
      K r4 σ2))
def wp_m_keep (p0 p1 p2 p3 p4 : Int) (σ : Mem) (K : Int → Mem → Prop) : Prop :=
  wp_m_trim p2 p3 σ (fun r1 =>
    wp_m_bits0 p2 r1 σ (fun r3 =>
      ∀ s6 : Int, s6 = (if r3 ≤ 2048 then 0 else 1) →
      wp_m_fails s6 p4 σ (fun r9 σ10 =>
        ((r9 = 0) →
          Lo1 (fun v7_13 σ14 again16 =>
            ((r1 ≤ v7_13) →
              (0 ≤ p0 ∧ p0 < 16) ∧
              ∀ s20 : Int, s20 = (if r1 ≠ 0 then p1 else 0) →
              K 1 (mS (mS σ14 47 p0 r1) 48 p0 s20)) ∧
            ((v7_13 < r1) →
              (0 ≤ v7_13 ∧ v7_13 < ln p2) ∧
              (0 ≤ ((129 * p0) + v7_13) ∧ ((129 * p0) + v7_13) < 2064) ∧
              okI (v7_13 + 1) ∧
              again16 (v7_13 + 1) (mS σ14 46 ((129 * p0) + v7_13) (σ14 p2 v7_13)))) 0 σ10) ∧
        ((r9 ≠ 0) →
          K 0 σ10))))
def wp_m_set (p0 p1 : Int) (σ : Mem) (K : Int → Mem → Prop) : Prop :=
  wp_m_isRegister p0 (mS σ 45 0 0) (fun r1 =>
    ∀ s4 : Int, s4 = (if r1 ≠ 0 then 0 else 1) →
    wp_m_fails s4 1 (mS σ 45 0 0) (fun r7 σ8 =>
      ((r7 = 0) →
        wp_m_size0 p0 σ8 (fun r11 σ12 =>
          ∀ s15 : Int, s15 = (if 0 ≤ p1 then p1 else (-p1)) →
          Lo2 (fun v5_17 v6_18 σ19 again21 =>
            okE v6_18 ∧
            ((v6_18 = 0) →
              ∀ s25 : Int, s25 = (if 0 ≤ p1 then 1 else (-1)) →
              wp_m_keep p0 s25 50 v5_17 9 σ19 (fun r28 σ29 =>
                K r11 σ29)) ∧
            ((v6_18 ≠ 0) →
              (0 ≤ v5_17 ∧ v5_17 < 9000) ∧
              ∀ v6_32 : Int, v6_32 = (v6_18 % 18446744073709551616 / 65536) →
              okI (v5_17 + 1) ∧
              again21 (v5_17 + 1) v6_32 (mS σ19 50 v5_17 (v6_18 % 65536)))) 0 s15 σ12)) ∧
      ((r7 ≠ 0) →
        K 0 σ8)))
def wp_m_line (p0 : Int) (σ : Mem) (K : Int → Mem → Prop) : Prop :=
  Lo2 (fun v3_1 v4_2 σ3 again6 =>
    Jq0 (
      ∀ s9 : Int, s9 = (if v3_1 ≠ 0 then 0 else 1) →
      wp_m_fails s9 1 σ3 (fun r12 σ13 =>
        ((r12 ≠ 0) →
          K 0 σ13) ∧
        ((r12 = 0) →
          okI ((σ13 45 1) + v3_1) ∧
          ∀ s18 : Int, s18 = (if ((σ13 45 1) + v3_1) ≤ 2100 then 0 else 1) →
          wp_m_fails s18 2 σ13 (fun r21 σ22 =>
            ((r21 = 0) →
              Lo1 (fun v4_25 σ26 again28 =>
                ((v3_1 ≤ v4_25) →
                  okI ((mS σ26 45 1 ((σ26 45 1) + v3_1)) 45 1) ∧
                  K ((mS σ26 45 1 ((σ26 45 1) + v3_1)) 45 1) (mS σ26 45 1 ((σ26 45 1) + v3_1))) ∧
                ((v4_25 < v3_1) →
                  (0 ≤ (8 * v4_25) ∧ (8 * v4_25) < 64) ∧
                  (0 ≤ ((σ26 45 1) + v4_25) ∧ ((σ26 45 1) + v4_25) < 2100) ∧
                  okI (v4_25 + 1) ∧
                  again28 (v4_25 + 1) (mS σ26 49 ((σ26 45 1) + v4_25) ((p0 % 18446744073709551616 / 2 ^ ((8 * v4_25)).toNat) % 256)))) 0 σ22) ∧
            ((r21 ≠ 0) →
              K 0 σ22)))))
    (fun J7 =>
      ((8 ≤ v4_2) →
        J7) ∧
      ((v4_2 < 8) →
        ((v3_1 ≠ v4_2) →
          J7) ∧
        ((v3_1 = v4_2) →
          (0 ≤ (8 * v4_2) ∧ (8 * v4_2) < 64) ∧
          ∀ v5_37 : Int, v5_37 = ((p0 % 18446744073709551616 / 2 ^ ((8 * v4_2)).toNat) % 256) →
          Jq1 (fun s40 => 
            wp_m_fails s40 1 σ3 (fun r43 σ44 =>
              ((r43 = 0) →
                Jq1 (fun v3_47 => 
                  okI (v4_2 + 1) ∧
                  again6 v3_47 (v4_2 + 1) σ44)
                (fun J49 =>
                  ((v5_37 = 0) →
                    J49 v3_1) ∧
                  ((v5_37 ≠ 0) →
                    okI (v3_1 + 1) ∧
                    J49 (v3_1 + 1)))) ∧
              ((r43 ≠ 0) →
                K 0 σ44)))
          (fun J42 =>
            Jq0 (
              J42 0)
            (fun J53 =>
              ((v5_37 = 0) →
                J53) ∧
              ((v5_37 ≠ 0) →
                wp_m_in v5_37 32 126 σ3 (fun r55 =>
                  ((r55 ≠ 0) →
                    J53) ∧
                  ((r55 = 0) →
                    J42 1))))))))) 0 0 (mS σ 45 0 0)
def wp_m_digit (p0 : Int) (σ : Mem) (K : Int → Prop) : Prop :=
  wp_m_in p0 48 57 σ (fun r1 =>
    ((r1 = 0) →
      wp_m_in p0 97 122 σ (fun r4 =>
        ((r4 = 0) →
          wp_m_in p0 65 90 σ (fun r7 =>
            ((r7 = 0) →
              K 99) ∧
            ((r7 ≠ 0) →
              okI ((p0 - 65) + 10) ∧
              K ((p0 - 65) + 10)))) ∧
        ((r4 ≠ 0) →
          okI ((p0 - 97) + 10) ∧
          K ((p0 - 97) + 10)))) ∧
    ((r1 ≠ 0) →
      okI (p0 - 48) ∧
      K (p0 - 48)))
def wp_m_timesSmall (p0 p1 p2 p3 : Int) (σ : Mem) (K : Int → Mem → Prop) : Prop :=
  Lo2 (fun v4_1 v6_2 σ3 again5 =>
    ((p1 ≤ v6_2) →
      Lo2 (fun v4_7 v6_8 σ9 again11 =>
        okE v4_7 ∧
        ((v4_7 = 0) →
          K v6_8 σ9) ∧
        ((v4_7 ≠ 0) →
          (0 ≤ v6_8 ∧ v6_8 < ln p0) ∧
          okL v4_7 ∧
          ∀ v4_16 : Int, v4_16 = (v4_7 / 65536) →
          okI (v6_8 + 1) ∧
          again11 v4_16 (v6_8 + 1) (mS σ9 p0 v6_8 (v4_7 % 65536)))) v4_1 p1 σ3) ∧
    ((v6_2 < p1) →
      (0 ≤ v6_2 ∧ v6_2 < ln p0) ∧
      okI (σ3 p0 v6_2) ∧
      ∀ v4_21 : Int, v4_21 = (v4_1 + ((σ3 p0 v6_2) * p2)) →
      okL v4_21 ∧
      ∀ v4_24 : Int, v4_24 = (v4_21 / 65536) →
      okI (v6_2 + 1) ∧
      again5 v4_24 (v6_2 + 1) (mS σ3 p0 v6_2 (v4_21 % 65536)))) p3 0 σ
def wp_m_read (p0 p1 : Int) (σ : Mem) (K : Int → Mem → Prop) : Prop :=
  ∀ v3_1 : Int, v3_1 = ((mS σ 45 0 0) 45 1) →
  okI v3_1 ∧
  Jq1 (fun s4 => 
    wp_m_isRegister p0 (mS (mS σ 45 0 0) 45 1 0) (fun r7 =>
      Jq1 (fun s9 => 
        wp_m_fails s9 1 (mS (mS σ 45 0 0) 45 1 0) (fun r12 σ13 =>
          ((r12 = 0) →
            Lo1 (fun v6_16 σ17 again19 =>
              ((v3_1 ≤ v6_16) →
                Lo2 (fun v5_21 v6_22 σ23 again26 =>
                  ((v3_1 ≤ v6_22) →
                    ∀ s29 : Int, s29 = (if s4 ≠ 1 then 1 else (-1)) →
                    wp_m_keep p0 s29 50 v5_21 2 σ23 (fun r32 σ33 =>
                      ((r32 ≠ 0) →
                        wp_m_size0 p0 σ33 (fun r36 σ37 =>
                          K r36 σ37)) ∧
                      ((r32 = 0) →
                        K 0 σ33))) ∧
                  ((v6_22 < v3_1) →
                    (0 ≤ v6_22 ∧ v6_22 < 2100) ∧
                    okI (σ23 49 v6_22) ∧
                    wp_m_digit (σ23 49 v6_22) σ23 (fun r41 =>
                      wp_m_timesSmall 50 v5_21 p1 r41 σ23 (fun r43 σ44 =>
                        okI (v6_22 + 1) ∧
                        again26 r43 (v6_22 + 1) σ44)))) 0 s4 σ17) ∧
              ((v6_16 < v3_1) →
                (0 ≤ v6_16 ∧ v6_16 < 2100) ∧
                okI (σ17 49 v6_16) ∧
                wp_m_digit (σ17 49 v6_16) σ17 (fun r50 =>
                  ∀ s53 : Int, s53 = (if r50 < p1 then 0 else 1) →
                  wp_m_fails s53 1 σ17 (fun r56 σ57 =>
                    ((r56 = 0) →
                      okI (v6_16 + 1) ∧
                      again19 (v6_16 + 1) σ57) ∧
                    ((r56 ≠ 0) →
                      K 0 σ57))))) s4 σ13) ∧
          ((r12 ≠ 0) →
            K 0 σ13)))
      (fun J11 =>
        Jq0 (
          J11 1)
        (fun J62 =>
          ((r7 = 0) →
            J62) ∧
          ((r7 ≠ 0) →
            wp_m_in p1 2 36 (mS (mS σ 45 0 0) 45 1 0) (fun r64 =>
              ((r64 = 0) →
                J62) ∧
              ((r64 ≠ 0) →
                ((v3_1 ≠ s4) →
                  J11 0) ∧
                ((v3_1 = s4) →
                  J62))))))))
  (fun J6 =>
    Jq0 (
      J6 0)
    (fun J70 =>
      ((v3_1 ≤ 0) →
        J70) ∧
      ((0 < v3_1) →
        okI ((mS σ 45 0 0) 49 0) ∧
        ((((mS σ 45 0 0) 49 0) ≠ 45) →
          J70) ∧
        ((((mS σ 45 0 0) 49 0) = 45) →
          J6 1))))
def wp_m_show (p0 p1 : Int) (σ : Mem) (K : Int → Mem → Prop) : Prop :=
  wp_m_isRegister p0 (mS σ 45 0 0) (fun r1 =>
    Jq1 (fun s3 => 
      wp_m_fails s3 1 (mS σ 45 0 0) (fun r6 σ7 =>
        ((r6 = 0) →
          wp_m_load p0 50 σ7 (fun r10 σ11 =>
            Lo2 (fun v3_13 v4_14 σ15 again18 =>
              ((v3_13 ≤ 0) →
                Jo1 (fun v4_20 σ21 => 
                  (0 ≤ p0 ∧ p0 < 16) ∧
                  okI ((mS σ21 45 1 0) 48 p0) ∧
                  Jo0 (fun σ26 => 
                    ∀ v5_28 : Int, v5_28 = (v4_20 - 1) →
                    okI v5_28 ∧
                    Lo1 (fun v5_30 σ32 again34 =>
                      ((v5_30 < 0) →
                        okI (σ32 45 1) ∧
                        K (σ32 45 1) σ32) ∧
                      ((0 ≤ v5_30) →
                        (0 ≤ v5_30 ∧ v5_30 < 9000) ∧
                        okI ((mS σ32 45 1 ((σ32 45 1) + 1)) 51 v5_30) ∧
                        ∀ s40 : Int, s40 = (if 10 ≤ ((mS σ32 45 1 ((σ32 45 1) + 1)) 51 v5_30) then ((97 + ((mS σ32 45 1 ((σ32 45 1) + 1)) 51 v5_30)) - 10) else (48 + ((mS σ32 45 1 ((σ32 45 1) + 1)) 51 v5_30))) →
                        (0 ≤ (σ32 45 1) ∧ (σ32 45 1) < 2100) ∧
                        okI (v5_30 + (-1)) ∧
                        again34 (v5_30 + (-1)) (mS (mS σ32 45 1 ((σ32 45 1) + 1)) 49 (σ32 45 1) s40))) v5_28 σ26)
                  (fun J27 =>
                    ((0 ≤ ((mS σ21 45 1 0) 48 p0)) →
                      J27 (mS σ21 45 1 0)) ∧
                    ((((mS σ21 45 1 0) 48 p0) < 0) →
                      (0 ≤ ((mS σ21 45 1 0) 45 1) ∧ ((mS σ21 45 1 0) 45 1) < 2100) ∧
                      J27 (mS (mS (mS σ21 45 1 0) 45 1 (((mS σ21 45 1 0) 45 1) + 1)) 49 ((mS σ21 45 1 0) 45 1) 45))))
                (fun J23 =>
                  ((v4_14 ≠ 0) →
                    J23 v4_14 σ15) ∧
                  ((v4_14 = 0) →
                    (0 ≤ v4_14 ∧ v4_14 < 9000) ∧
                    okI (v4_14 + 1) ∧
                    J23 (v4_14 + 1) (mS σ15 51 v4_14 0)))) ∧
              ((0 < v3_13) →
                ∀ v7_49 : Int, v7_49 = (v3_13 - 1) →
                okI v7_49 ∧
                Lo2 (fun v5_51 v7_52 σ54 again56 =>
                  ((v7_52 < 0) →
                    wp_m_trim 50 v3_13 σ54 (fun r58 =>
                      (0 ≤ v4_14 ∧ v4_14 < 9000) ∧
                      okI (v4_14 + 1) ∧
                      again18 r58 (v4_14 + 1) (mS σ54 51 v4_14 v5_51))) ∧
                  ((0 ≤ v7_52) →
                    (0 ≤ v7_52 ∧ v7_52 < 9000) ∧
                    okI (σ54 50 v7_52) ∧
                    ∀ v5_65 : Int, v5_65 = (orL (v5_51 * 65536) (σ54 50 v7_52)) →
                    (0 ≤ v5_65 ∧ v5_65 ≤ 9223372036854775807) ∧
                    (0 < p1 ∧ p1 ≤ 9223372036854775807) ∧
                    ∀ v5_70 : Int, v5_70 = (v5_65 % p1) →
                    okI (v7_52 + (-1)) ∧
                    again56 v5_70 (v7_52 + (-1)) (mS σ54 50 v7_52 (v5_65 / p1)))) 0 v7_49 σ15)) r10 0 σ11)) ∧
        ((r6 ≠ 0) →
          K 0 σ7)))
    (fun J5 =>
      Jq0 (
        J5 1)
      (fun J73 =>
        ((r1 = 0) →
          J73) ∧
        ((r1 ≠ 0) →
          wp_m_in p1 2 36 (mS σ 45 0 0) (fun r75 =>
            ((r75 ≠ 0) →
              J5 0) ∧
            ((r75 = 0) →
              J73))))))
def wp_m_letter (p0 : Int) (σ : Mem) (K : Int → Mem → Prop) : Prop :=
  okI (((mS σ 45 0 0) 45 1) - 1) ∧
  wp_m_in p0 0 (((mS σ 45 0 0) 45 1) - 1) (mS σ 45 0 0) (fun r2 =>
    ∀ s5 : Int, s5 = (if r2 ≠ 0 then 0 else 1) →
    wp_m_fails s5 1 (mS σ 45 0 0) (fun r8 σ9 =>
      ((r8 = 0) → (0 ≤ p0 ∧ p0 < 2100) ∧ True) ∧
      ∀ s13 : Int, s13 = (if r8 = 0 then (σ9 49 p0) else 0) →
      okI s13 ∧
      K s13 σ9))
def wp_m_work (p0 p1 p2 p3 : Int) (σ : Mem) (K : Int → Mem → Prop) : Prop :=
  wp_m_in p0 0 2 (mS σ 45 0 0) (fun r1 =>
    Jq1 (fun s3 => 
      wp_m_fails s3 1 (mS σ 45 0 0) (fun r6 σ7 =>
        ((r6 = 0) →
          wp_m_load p2 50 σ7 (fun r10 σ11 =>
            wp_m_load p3 51 σ11 (fun r13 σ14 =>
              (0 ≤ p2 ∧ p2 < 16) ∧
              ∀ v7_17 : Int, v7_17 = (σ14 48 p2) →
              ((p0 ≠ 1) → (0 ≤ p3 ∧ p3 < 16) ∧ True) ∧
              ((p0 = 1) → (0 ≤ p3 ∧ p3 < 16) ∧ True) ∧
              ∀ s22 : Int, s22 = (if p0 ≠ 1 then (σ14 48 p3) else (-(σ14 48 p3))) →
              Jo1 (fun v9_26 σ27 => 
                ((v9_26 ≠ 0) → (0 ≤ p1 ∧ p1 < 16) ∧ True) ∧
                ∀ s32 : Int, s32 = (if v9_26 = 0 then 0 else (σ27 48 p1)) →
                okI s32 ∧
                K s32 σ27)
              (fun J29 =>
                ((p0 ≠ 2) →
                  okI v7_17 ∧
                  okI s22 ∧
                  Jq0 (
                    ∀ s41 : Int, s41 = (if v7_17 = 0 then s22 else v7_17) →
                    wp_m_plus 50 r10 51 r13 52 σ14 (fun r44 σ45 =>
                      wp_m_keep p1 s41 52 r44 2 σ45 (fun r47 σ48 =>
                        J29 r47 σ48)))
                  (fun J39 =>
                    ((v7_17 = s22) →
                      J39) ∧
                    ((v7_17 ≠ s22) →
                      ((s22 = 0) →
                        J39) ∧
                      ((s22 ≠ 0) →
                        ((v7_17 ≠ 0) →
                          wp_m_compared 50 r10 51 r13 σ14 (fun r53 =>
                            ((r53 < 0) →
                              wp_m_less 51 r13 50 r10 52 σ14 (fun r56 σ57 =>
                                wp_m_keep p1 s22 52 r56 2 σ57 (fun r59 σ60 =>
                                  J29 r59 σ60))) ∧
                            ((0 ≤ r53) →
                              wp_m_less 50 r10 51 r13 52 σ14 (fun r62 σ63 =>
                                wp_m_keep p1 v7_17 52 r62 2 σ63 (fun r65 σ66 =>
                                  J29 r65 σ66))))) ∧
                        ((v7_17 = 0) →
                          J39))))) ∧
                ((p0 = 2) →
                  wp_m_times 50 r10 51 r13 52 σ14 (fun r69 σ70 =>
                    okI (v7_17 * s22) ∧
                    wp_m_keep p1 (v7_17 * s22) 52 r69 2 σ70 (fun r73 σ74 =>
                      J29 r73 σ74))))))) ∧
        ((r6 ≠ 0) →
          K 0 σ7)))
    (fun J5 =>
      Jq0 (
        J5 1)
      (fun J76 =>
        ((r1 = 0) →
          J76) ∧
        ((r1 ≠ 0) →
          wp_m_isRegister p1 (mS σ 45 0 0) (fun r78 =>
            ((r78 = 0) →
              J76) ∧
            ((r78 ≠ 0) →
              wp_m_isRegister p2 (mS σ 45 0 0) (fun r81 =>
                ((r81 = 0) →
                  J76) ∧
                ((r81 ≠ 0) →
                  wp_m_isRegister p3 (mS σ 45 0 0) (fun r84 =>
                    ((r84 ≠ 0) →
                      J5 0) ∧
                    ((r84 = 0) →
                      J76))))))))))
def wp_m_divide (p0 p1 p2 p3 p4 : Int) (σ : Mem) (K : Int → Mem → Prop) : Prop :=
  wp_m_isRegister p1 (mS σ 45 0 0) (fun r1 =>
    Jq1 (fun s3 => 
      wp_m_fails s3 1 (mS σ 45 0 0) (fun r6 σ7 =>
        ((r6 ≠ 0) →
          K 0 σ7) ∧
        ((r6 = 0) →
          (0 ≤ p4 ∧ p4 < 16) ∧
          okI (σ7 48 p4) ∧
          ∀ s13 : Int, s13 = (if (σ7 48 p4) ≠ 0 then 0 else 1) →
          wp_m_fails s13 2 σ7 (fun r16 σ17 =>
            ((r16 = 0) →
              wp_m_load p3 50 σ17 (fun r20 σ21 =>
                wp_m_load p4 51 σ21 (fun r23 σ24 =>
                  (0 ≤ p3 ∧ p3 < 16) ∧
                  ∀ v8_27 : Int, v8_27 = (σ24 48 p3) →
                  ∀ v9_29 : Int, v9_29 = (σ24 48 p4) →
                  wp_m_divided 50 r20 51 r23 52 σ24 (fun r31 σ32 =>
                    ∀ v10_34 : Int, v10_34 = (σ32 45 12) →
                    Jo0 (fun σ36 => 
                      (0 ≤ p2 ∧ p2 < 16) ∧
                      okI (σ36 48 p2) ∧
                      K (σ36 48 p2) σ36)
                    (fun J37 =>
                      Jq0 (
                        okI (v8_27 * v9_29) ∧
                        okI v10_34 ∧
                        wp_m_keep p1 (v8_27 * v9_29) 52 v10_34 2 σ32 (fun r43 σ44 =>
                          okI v8_27 ∧
                          wp_m_keep p2 v8_27 50 r31 2 σ44 (fun r47 σ48 =>
                            J37 σ48)))
                      (fun J40 =>
                        ((p0 = 0) →
                          J40) ∧
                        ((p0 ≠ 0) →
                          ((r31 ≤ 0) →
                            J40) ∧
                          ((0 < r31) →
                            okI v8_27 ∧
                            okI v9_29 ∧
                            ((v8_27 = v9_29) →
                              J40) ∧
                            ((v8_27 ≠ v9_29) →
                              okI v10_34 ∧
                              wp_m_plus 52 v10_34 53 1 52 (mS σ32 53 0 1) (fun r56 σ57 =>
                                wp_m_less 51 r23 50 r31 53 σ57 (fun r59 σ60 =>
                                  wp_m_bits0 52 r56 σ60 (fun r62 =>
                                    ∀ s65 : Int, s65 = (if r62 ≤ 2048 then 0 else 1) →
                                    wp_m_fails s65 2 σ60 (fun r68 σ69 =>
                                      ((r68 = 0) →
                                        okI (v8_27 * v9_29) ∧
                                        wp_m_keep p1 (v8_27 * v9_29) 52 r56 2 σ69 (fun r73 σ74 =>
                                          wp_m_keep p2 v9_29 53 r59 2 σ74 (fun r76 σ77 =>
                                            J37 σ77))) ∧
                                      ((r68 ≠ 0) →
                                        K 0 σ69)))))))))))))) ∧
            ((r16 ≠ 0) →
              K 0 σ17)))))
    (fun J5 =>
      Jq0 (
        J5 1)
      (fun J80 =>
        ((r1 = 0) →
          J80) ∧
        ((r1 ≠ 0) →
          wp_m_isRegister p2 (mS σ 45 0 0) (fun r82 =>
            ((r82 = 0) →
              J80) ∧
            ((r82 ≠ 0) →
              wp_m_isRegister p3 (mS σ 45 0 0) (fun r85 =>
                ((r85 = 0) →
                  J80) ∧
                ((r85 ≠ 0) →
                  wp_m_isRegister p4 (mS σ 45 0 0) (fun r88 =>
                    ((r88 = 0) →
                      J80) ∧
                    ((r88 ≠ 0) →
                      ((p1 ≠ p2) →
                        J5 0) ∧
                      ((p1 = p2) →
                        J80)))))))))))
def wp_m_shift (p0 p1 p2 : Int) (σ : Mem) (K : Int → Mem → Prop) : Prop :=
  wp_m_isRegister p0 (mS σ 45 0 0) (fun r1 =>
    Jq1 (fun s3 => 
      wp_m_fails s3 1 (mS σ 45 0 0) (fun r6 σ7 =>
        ((r6 = 0) →
          wp_m_load p1 50 σ7 (fun r10 σ11 =>
            ((p2 < 0) →
              Lq2 (fun v6_14 v7_15 again18 =>
                okI (-p2) ∧
                (((-p2) ≤ v7_15) →
                  Lo2 (fun v5_21 v7_22 σ23 again26 =>
                    okI (16 * v7_22) ∧
                    okI ((16 * r10) + p2) ∧
                    ((((16 * r10) + p2) ≤ (16 * v7_22)) →
                      wp_m_trim 52 v5_21 σ23 (fun r30 =>
                        Jo1 (fun v5_32 σ33 => 
                          (0 ≤ p1 ∧ p1 < 16) ∧
                          okI (σ33 48 p1) ∧
                          wp_m_keep p0 (σ33 48 p1) 52 v5_32 2 σ33 (fun r38 σ39 =>
                            wp_m_size0 p0 σ39 (fun r41 σ42 =>
                              K r41 σ42)))
                        (fun J35 =>
                          ((v6_14 = 0) →
                            J35 r30 σ23) ∧
                          ((v6_14 ≠ 0) →
                            (0 ≤ p1 ∧ p1 < 16) ∧
                            okI (σ23 48 p1) ∧
                            ((0 ≤ (σ23 48 p1)) →
                              J35 r30 σ23) ∧
                            (((σ23 48 p1) < 0) →
                              wp_m_plus 52 r30 53 1 52 (mS σ23 53 0 1) (fun r48 σ49 =>
                                J35 r48 σ49)))))) ∧
                    (((16 * v7_22) < ((16 * r10) + p2)) →
                      Lq2 (fun v8_52 v9_53 again56 =>
                        ((16 ≤ v9_53) →
                          (0 ≤ v5_21 ∧ v5_21 < 9000) ∧
                          okI (v5_21 + 1) ∧
                          okI (v7_22 + 1) ∧
                          again26 (v5_21 + 1) (v7_22 + 1) (mS σ23 52 v5_21 v8_52)) ∧
                        ((v9_53 < 16) →
                          okI (((16 * v7_22) + v9_53) - p2) ∧
                          wp_m_isBit 50 r10 (((16 * v7_22) + v9_53) - p2) σ23 (fun r62 =>
                            Jq1 (fun v8_64 => 
                              okI (v9_53 + 1) ∧
                              again56 v8_64 (v9_53 + 1))
                            (fun J66 =>
                              ((r62 = 0) →
                                J66 v8_52) ∧
                              ((r62 ≠ 0) →
                                (0 ≤ v9_53 ∧ v9_53 < 32) ∧
                                ∀ v8_70 : Int, v8_70 = (orI v8_52 (1 * 2 ^ (v9_53).toNat)) →
                                J66 v8_70))))) 0 0)) 0 0 σ11) ∧
                ((v7_15 < (-p2)) →
                  wp_m_isBit 50 r10 v7_15 σ11 (fun r74 =>
                    ∀ v6_76 : Int, v6_76 = (orI v6_14 r74) →
                    okI (v7_15 + 1) ∧
                    again18 v6_76 (v7_15 + 1)))) 0 0) ∧
            ((0 ≤ p2) →
              (0 ≤ p1 ∧ p1 < 16) ∧
              wp_m_shiftedLeft 50 r10 p2 52 σ11 (fun r82 σ83 =>
                okI (σ11 48 p1) ∧
                wp_m_keep p0 (σ11 48 p1) 52 r82 2 σ83 (fun r86 σ87 =>
                  ((r86 = 0) →
                    K 0 σ87) ∧
                  ((r86 ≠ 0) →
                    wp_m_size0 p0 σ87 (fun r90 σ91 =>
                      K r90 σ91))))))) ∧
        ((r6 ≠ 0) →
          K 0 σ7)))
    (fun J5 =>
      Jq0 (
        J5 1)
      (fun J93 =>
        ((r1 = 0) →
          J93) ∧
        ((r1 ≠ 0) →
          wp_m_isRegister p1 (mS σ 45 0 0) (fun r95 =>
            ((r95 = 0) →
              J93) ∧
            ((r95 ≠ 0) →
              wp_m_in p2 (-4000) 4000 (mS σ 45 0 0) (fun r98 =>
                ((r98 ≠ 0) →
                  J5 0) ∧
                ((r98 = 0) →
                  J93))))))))
def wp_m_twos (p0 p1 p2 p3 : Int) (σ : Mem) (K : Mem → Prop) : Prop :=
  Lo1 (fun v4_1 σ2 again4 =>
    ((p2 ≤ v4_1) →
      ∀ s7 : Int, s7 = (if p3 = 0 then 0 else 1) →
      Lo2 (fun v4_10 v5_11 σ12 again15 =>
        ((p2 ≤ v5_11) →
          K σ12) ∧
        ((v5_11 < p2) →
          ((p3 = 0) →
            K σ12) ∧
          ((p3 ≠ 0) →
            (0 ≤ v5_11 ∧ v5_11 < ln p0) ∧
            ∀ v4_19 : Int, v4_19 = (v4_10 + ((-(σ12 p0 v5_11) - 1) % 65536)) →
            okI v4_19 ∧
            ∀ v4_22 : Int, v4_22 = (v4_19 / 65536) →
            okI v4_22 ∧
            okI (v5_11 + 1) ∧
            again15 v4_22 (v5_11 + 1) (mS σ12 p0 v5_11 (v4_19 % 65536))))) s7 0 σ2) ∧
    ((v4_1 < p2) →
      (0 ≤ v4_1 ∧ v4_1 < ln p0) ∧
      okI (v4_1 + 1) ∧
      again4 (v4_1 + 1) (mS σ2 p0 v4_1 0))) p1 σ
def wp_m_bits (p0 p1 p2 p3 : Int) (σ : Mem) (K : Int → Mem → Prop) : Prop :=
  wp_m_in p0 0 2 (mS σ 45 0 0) (fun r1 =>
    Jq1 (fun s3 => 
      wp_m_fails s3 1 (mS σ 45 0 0) (fun r6 σ7 =>
        ((r6 = 0) →
          wp_m_load p2 50 σ7 (fun r10 σ11 =>
            wp_m_load p3 51 σ11 (fun r13 σ14 =>
              (0 ≤ p2 ∧ p2 < 16) ∧
              okI (σ14 48 p2) ∧
              ∀ s19 : Int, s19 = (if 0 ≤ (σ14 48 p2) then 0 else 1) →
              wp_m_twos 50 r10 131 s19 σ14 (fun σ22 =>
                (0 ≤ p3 ∧ p3 < 16) ∧
                okI (σ22 48 p3) ∧
                ∀ s27 : Int, s27 = (if 0 ≤ (σ22 48 p3) then 0 else 1) →
                wp_m_twos 51 r13 131 s27 σ22 (fun σ30 =>
                  Lo1 (fun v8_32 σ33 again35 =>
                    ((131 ≤ v8_32) →
                      ∀ s38 : Int, s38 = (if (anI (σ33 52 (131 - 1)) 32768) = 0 then 0 else 1) →
                      wp_m_twos 52 131 131 s38 σ33 (fun σ41 =>
                        ∀ s44 : Int, s44 = (if s38 = 0 then 1 else (-1)) →
                        wp_m_keep p1 s44 52 131 2 σ41 (fun r47 σ48 =>
                          ((r47 ≠ 0) → (0 ≤ p1 ∧ p1 < 16) ∧ True) ∧
                          ∀ s52 : Int, s52 = (if r47 = 0 then 0 else (σ48 48 p1)) →
                          okI s52 ∧
                          K s52 σ48))) ∧
                    ((v8_32 < 131) →
                      Jq1 (fun s56 => 
                        (0 ≤ v8_32 ∧ v8_32 < 9000) ∧
                        okI (v8_32 + 1) ∧
                        again35 (v8_32 + 1) (mS σ33 52 v8_32 (s56 % 65536)))
                      (fun J58 =>
                        ((p0 ≠ 0) →
                          ((p0 ≠ 1) →
                            (0 ≤ v8_32 ∧ v8_32 < 9000) ∧
                            J58 (xoI (σ33 50 v8_32) (σ33 51 v8_32))) ∧
                          ((p0 = 1) →
                            (0 ≤ v8_32 ∧ v8_32 < 9000) ∧
                            J58 (orI (σ33 50 v8_32) (σ33 51 v8_32)))) ∧
                        ((p0 = 0) →
                          (0 ≤ v8_32 ∧ v8_32 < 9000) ∧
                          J58 (anI (σ33 50 v8_32) (σ33 51 v8_32)))))) 0 σ30))))) ∧
        ((r6 ≠ 0) →
          K 0 σ7)))
    (fun J5 =>
      Jq0 (
        J5 1)
      (fun J66 =>
        ((r1 = 0) →
          J66) ∧
        ((r1 ≠ 0) →
          wp_m_isRegister p1 (mS σ 45 0 0) (fun r68 =>
            ((r68 = 0) →
              J66) ∧
            ((r68 ≠ 0) →
              wp_m_isRegister p2 (mS σ 45 0 0) (fun r71 =>
                ((r71 = 0) →
                  J66) ∧
                ((r71 ≠ 0) →
                  wp_m_isRegister p3 (mS σ 45 0 0) (fun r74 =>
                    ((r74 ≠ 0) →
                      J5 0) ∧
                    ((r74 = 0) →
                      J66))))))))))
def wp_m_power (p0 p1 p2 : Int) (σ : Mem) (K : Int → Mem → Prop) : Prop :=
  wp_m_isRegister p0 (mS σ 45 0 0) (fun r1 =>
    Jq1 (fun s3 => 
      wp_m_fails s3 1 (mS σ 45 0 0) (fun r6 σ7 =>
        ((r6 = 0) →
          wp_m_load p1 50 σ7 (fun r10 σ11 =>
            wp_m_bits0 50 r10 σ11 (fun r13 =>
              (0 ≤ p1 ∧ p1 < 16) ∧
              okI (σ11 48 p1) ∧
              Jq1 (fun s17 => 
                Jq0 (
                  ∀ s22 : Int, s22 = (if p2 ≠ 0 then s17 else 1) →
                  Jq1 (fun s25 => 
                    wp_m_keep p0 s22 52 s25 2 (mS σ11 52 0 1) (fun r28 σ29 =>
                      wp_m_size0 p0 σ29 (fun r31 σ32 =>
                        K r31 σ32)))
                  (fun J27 =>
                    Jq0 (
                      J27 1)
                    (fun J34 =>
                      ((p2 = 0) →
                        J34) ∧
                      ((p2 ≠ 0) →
                        ((r13 ≠ 1) →
                          J27 0) ∧
                        ((r13 = 1) →
                          J34)))))
                (fun J20 =>
                  ((p2 = 0) →
                    J20) ∧
                  ((p2 ≠ 0) →
                    ((2 ≤ r13) →
                      okI (r13 - 1) ∧
                      okL ((r13 - 1) * p2) ∧
                      ∀ s42 : Int, s42 = (if ((r13 - 1) * p2) ≤ 2048 then 0 else 1) →
                      wp_m_fails s42 2 (mS σ11 52 0 1) (fun r45 σ46 =>
                        ((r45 = 0) →
                          Lo2 (fun v7_49 v8_50 σ51 again54 =>
                            ((p2 ≤ v8_50) →
                              wp_m_keep p0 s17 52 v7_49 2 σ51 (fun r56 σ57 =>
                                ((r56 = 0) →
                                  K 0 σ57) ∧
                                ((r56 ≠ 0) →
                                  wp_m_size0 p0 σ57 (fun r60 σ61 =>
                                    K r60 σ61)))) ∧
                            ((v8_50 < p2) →
                              wp_m_times 52 v7_49 50 r10 53 σ51 (fun r63 σ64 =>
                                Lo1 (fun v9_66 σ67 again69 =>
                                  ((r63 ≤ v9_66) →
                                    okI (v8_50 + 1) ∧
                                    again54 r63 (v8_50 + 1) σ67) ∧
                                  ((v9_66 < r63) →
                                    (0 ≤ v9_66 ∧ v9_66 < 9000) ∧
                                    okI (v9_66 + 1) ∧
                                    again69 (v9_66 + 1) (mS σ67 52 v9_66 (σ67 53 v9_66)))) 0 σ64))) 1 0 σ46) ∧
                        ((r45 ≠ 0) →
                          K 0 σ46))) ∧
                    ((r13 < 2) →
                      J20))))
              (fun J19 =>
                Jq0 (
                  J19 1)
                (fun J74 =>
                  ((0 ≤ (σ11 48 p1)) →
                    J74) ∧
                  (((σ11 48 p1) < 0) →
                    (((p2 % 2) ≠ 1) →
                      J74) ∧
                    (((p2 % 2) = 1) →
                      J19 (-1)))))))) ∧
        ((r6 ≠ 0) →
          K 0 σ7)))
    (fun J5 =>
      Jq0 (
        J5 1)
      (fun J78 =>
        ((r1 = 0) →
          J78) ∧
        ((r1 ≠ 0) →
          wp_m_isRegister p1 (mS σ 45 0 0) (fun r80 =>
            ((r80 = 0) →
              J78) ∧
            ((r80 ≠ 0) →
              ((0 ≤ p2) →
                J5 0) ∧
              ((p2 < 0) →
                J78)))))))
def wp_m_residue (p0 p1 p2 p3 : Int) (σ : Mem) (K : Int → Mem → Prop) : Prop :=
  wp_m_isRegister p0 (mS σ 45 0 0) (fun r1 =>
    Jq1 (fun s3 => 
      wp_m_fails s3 1 (mS σ 45 0 0) (fun r6 σ7 =>
        ((r6 ≠ 0) →
          K 0 σ7) ∧
        ((r6 = 0) →
          (0 ≤ p3 ∧ p3 < 16) ∧
          okI (σ7 48 p3) ∧
          ∀ s13 : Int, s13 = (if (σ7 48 p3) ≠ 0 then 0 else 1) →
          wp_m_fails s13 2 σ7 (fun r16 σ17 =>
            ((r16 = 0) →
              wp_m_load p2 55 σ17 (fun r20 σ21 =>
                wp_m_load p3 54 σ21 (fun r23 σ24 =>
                  wp_m_load p1 50 σ24 (fun r26 σ27 =>
                    wp_m_bits0 55 r20 σ27 (fun r29 =>
                      (0 ≤ p1 ∧ p1 < 16) ∧
                      okI (σ27 48 p1) ∧
                      Jq1 (fun s33 => 
                        Lo1 (fun v11_36 σ37 again39 =>
                          ((r20 ≤ v11_36) →
                            wp_m_divided 50 r26 54 r23 52 σ37 (fun r41 σ42 =>
                              Lo1 (fun v11_44 σ45 again47 =>
                                ((r41 ≤ v11_44) →
                                  wp_m_divided 53 1 54 r23 52 (mS σ45 53 0 1) (fun r49 σ50 =>
                                    ∀ v11_52 : Int, v11_52 = (r29 - 1) →
                                    okI v11_52 ∧
                                    Lo2 (fun v8_54 v11_55 σ57 again60 =>
                                      ((v11_55 < 0) →
                                        Jq1 (fun s62 => 
                                          Jo0 (fun σ65 => 
                                            (0 ≤ p0 ∧ p0 < 16) ∧
                                            okI (σ65 48 p0) ∧
                                            K (σ65 48 p0) σ65)
                                          (fun J66 =>
                                            ((s62 = 0) →
                                              okI (σ57 48 p3) ∧
                                              wp_m_keep p0 (σ57 48 p3) 53 v8_54 2 σ57 (fun r71 σ72 =>
                                                J66 σ72)) ∧
                                            ((s62 ≠ 0) →
                                              wp_m_less 54 r23 53 v8_54 52 σ57 (fun r74 σ75 =>
                                                okI (σ75 48 p3) ∧
                                                wp_m_keep p0 (σ75 48 p3) 52 r74 2 σ75 (fun r78 σ79 =>
                                                  J66 σ79)))))
                                        (fun J64 =>
                                          Jq0 (
                                            J64 0)
                                          (fun J81 =>
                                            ((v8_54 ≤ 0) →
                                              J81) ∧
                                            ((0 < v8_54) →
                                              okI (σ57 48 p3) ∧
                                              ∀ s85 : Int, s85 = (if 0 ≤ (σ57 48 p3) then 0 else 1) →
                                              ((s33 = s85) →
                                                J81) ∧
                                              ((s33 ≠ s85) →
                                                J64 1))))) ∧
                                      ((0 ≤ v11_55) →
                                        wp_m_times 53 v8_54 53 v8_54 50 σ57 (fun r89 σ90 =>
                                          wp_m_divided 50 r89 54 r23 52 σ90 (fun r92 σ93 =>
                                            Lo1 (fun v12_95 σ96 again98 =>
                                              ((r92 ≤ v12_95) →
                                                wp_m_isBit 57 r20 v11_55 σ96 (fun r100 =>
                                                  Jo1 (fun v8_102 σ103 => 
                                                    okI (v11_55 + (-1)) ∧
                                                    again60 v8_102 (v11_55 + (-1)) σ103)
                                                  (fun J105 =>
                                                    ((r100 ≠ 0) →
                                                      wp_m_times 53 r92 58 r41 50 σ96 (fun r108 σ109 =>
                                                        wp_m_divided 50 r108 54 r23 52 σ109 (fun r111 σ112 =>
                                                          Lo1 (fun v12_114 σ115 again117 =>
                                                            ((r111 ≤ v12_114) →
                                                              J105 r111 σ115) ∧
                                                            ((v12_114 < r111) →
                                                              (0 ≤ v12_114 ∧ v12_114 < 9000) ∧
                                                              okI (v12_114 + 1) ∧
                                                              again117 (v12_114 + 1) (mS σ115 53 v12_114 (σ115 50 v12_114)))) 0 σ112))) ∧
                                                    ((r100 = 0) →
                                                      J105 r92 σ96)))) ∧
                                              ((v12_95 < r92) →
                                                (0 ≤ v12_95 ∧ v12_95 < 9000) ∧
                                                okI (v12_95 + 1) ∧
                                                again98 (v12_95 + 1) (mS σ96 53 v12_95 (σ96 50 v12_95)))) 0 σ93)))) r49 v11_52 σ50)) ∧
                                ((v11_44 < r41) →
                                  (0 ≤ v11_44 ∧ v11_44 < 9000) ∧
                                  (0 ≤ v11_44 ∧ v11_44 < 129) ∧
                                  okI (v11_44 + 1) ∧
                                  again47 (v11_44 + 1) (mS σ45 58 v11_44 (σ45 50 v11_44)))) 0 σ42)) ∧
                          ((v11_36 < r20) →
                            (0 ≤ v11_36 ∧ v11_36 < 9000) ∧
                            (0 ≤ v11_36 ∧ v11_36 < 129) ∧
                            okI (v11_36 + 1) ∧
                            again39 (v11_36 + 1) (mS σ37 57 v11_36 (σ37 55 v11_36)))) 0 σ27)
                      (fun J35 =>
                        Jq0 (
                          J35 0)
                        (fun J130 =>
                          ((0 ≤ (σ27 48 p1)) →
                            J130) ∧
                          (((σ27 48 p1) < 0) →
                            wp_m_isBit 55 r20 0 σ27 (fun r132 =>
                              ((r132 = 0) →
                                J130) ∧
                              ((r132 ≠ 0) →
                                J35 1)))))))))) ∧
            ((r16 ≠ 0) →
              K 0 σ17)))))
    (fun J5 =>
      Jq0 (
        J5 1)
      (fun J137 =>
        ((r1 = 0) →
          J137) ∧
        ((r1 ≠ 0) →
          wp_m_isRegister p1 (mS σ 45 0 0) (fun r139 =>
            ((r139 = 0) →
              J137) ∧
            ((r139 ≠ 0) →
              wp_m_isRegister p2 (mS σ 45 0 0) (fun r142 =>
                ((r142 = 0) →
                  J137) ∧
                ((r142 ≠ 0) →
                  wp_m_isRegister p3 (mS σ 45 0 0) (fun r145 =>
                    ((r145 = 0) →
                      J137) ∧
                    ((r145 ≠ 0) →
                      (0 ≤ p2 ∧ p2 < 16) ∧
                      okI ((mS σ 45 0 0) 48 p2) ∧
                      ((0 ≤ ((mS σ 45 0 0) 48 p2)) →
                        J5 0) ∧
                      ((((mS σ 45 0 0) 48 p2) < 0) →
                        J137)))))))))))
def wp_m_compare (p0 p1 : Int) (σ : Mem) (K : Int → Mem → Prop) : Prop :=
  wp_m_isRegister p0 (mS σ 45 0 0) (fun r1 =>
    Jq1 (fun s3 => 
      wp_m_fails s3 1 (mS σ 45 0 0) (fun r6 σ7 =>
        ((r6 = 0) →
          (0 ≤ p0 ∧ p0 < 16) ∧
          (0 ≤ p1 ∧ p1 < 16) ∧
          okI (σ7 48 p0) ∧
          okI (σ7 48 p1) ∧
          (((σ7 48 p0) = (σ7 48 p1)) →
            wp_m_load p0 50 σ7 (fun r15 σ16 =>
              wp_m_load p1 51 σ16 (fun r18 σ19 =>
                wp_m_compared 50 r15 51 r18 σ19 (fun r21 =>
                  okI ((σ19 48 p0) * r21) ∧
                  K ((σ19 48 p0) * r21) σ19)))) ∧
          (((σ7 48 p0) ≠ (σ7 48 p1)) →
            ∀ s26 : Int, s26 = (if (σ7 48 p1) ≤ (σ7 48 p0) then 1 else (-1)) →
            K s26 σ7)) ∧
        ((r6 ≠ 0) →
          K 0 σ7)))
    (fun J5 =>
      Jq0 (
        J5 1)
      (fun J29 =>
        ((r1 = 0) →
          J29) ∧
        ((r1 ≠ 0) →
          wp_m_isRegister p1 (mS σ 45 0 0) (fun r31 =>
            ((r31 ≠ 0) →
              J5 0) ∧
            ((r31 = 0) →
              J29))))))
def wp_m_low64 (p0 : Int) (σ : Mem) (K : Int → Prop) : Prop :=
  Lq2 (fun v2_1 v4_2 again4 =>
    ((v4_2 < 0) →
      okL v2_1 ∧
      K v2_1) ∧
    ((0 ≤ v4_2) →
      ((v4_2 < p0) → (0 ≤ v4_2 ∧ v4_2 < 9000) ∧ True) ∧
      ∀ s9 : Int, s9 = (if p0 ≤ v4_2 then 0 else (σ 50 v4_2)) →
      okI s9 ∧
      ∀ v2_13 : Int, v2_13 = (orL (v2_1 * 65536) s9) →
      okI (v4_2 + (-1)) ∧
      again4 v2_13 (v4_2 + (-1)))) 0 3
def wp_m_small (p0 : Int) (σ : Mem) (K : Int → Mem → Prop) : Prop :=
  wp_m_isRegister p0 (mS σ 45 0 0) (fun r1 =>
    ∀ s4 : Int, s4 = (if r1 ≠ 0 then 0 else 1) →
    wp_m_fails s4 1 (mS σ 45 0 0) (fun r7 σ8 =>
      ((r7 = 0) →
        wp_m_load p0 50 σ8 (fun r11 σ12 =>
          wp_m_low64 r11 σ12 (fun r14 =>
            wp_m_bits0 50 r11 σ12 (fun r16 =>
              Jq1 (fun s18 => 
                ∀ s22 : Int, s22 = (if s18 ≠ 0 then 0 else 1) →
                wp_m_fails s22 2 σ12 (fun r25 σ26 =>
                  ((r25 = 0) →
                    (0 ≤ p0 ∧ p0 < 16) ∧
                    okI (σ26 48 p0) ∧
                    ((0 ≤ (σ26 48 p0)) →
                      K r14 σ26) ∧
                    (((σ26 48 p0) < 0) →
                      okL (-r14) ∧
                      K (-r14) σ26)) ∧
                  ((r25 ≠ 0) →
                    K 0 σ26)))
              (fun J20 =>
                Jq0 (
                  J20 1)
                (fun J33 =>
                  ((r16 < 64) →
                    J33) ∧
                  ((64 ≤ r16) →
                    wp_m_bits0 50 r11 σ12 (fun r35 =>
                      Jq0 (
                        J20 0)
                      (fun J37 =>
                        ((r35 ≠ 64) →
                          J37) ∧
                        ((r35 = 64) →
                          (0 ≤ p0 ∧ p0 < 16) ∧
                          okI (σ12 48 p0) ∧
                          ((0 ≤ (σ12 48 p0)) →
                            J37) ∧
                          (((σ12 48 p0) < 0) →
                            ((r14 ≠ (-9223372036854775808)) →
                              J37) ∧
                            ((r14 = (-9223372036854775808)) →
                              J33)))))))))))) ∧
      ((r7 ≠ 0) →
        K 0 σ8)))
def wp_m_low (p0 : Int) (σ : Mem) (K : Int → Mem → Prop) : Prop :=
  wp_m_isRegister p0 (mS σ 45 0 0) (fun r1 =>
    ∀ s4 : Int, s4 = (if r1 ≠ 0 then 0 else 1) →
    wp_m_fails s4 1 (mS σ 45 0 0) (fun r7 σ8 =>
      ((r7 = 0) →
        wp_m_load p0 50 σ8 (fun r11 σ12 =>
          wp_m_low64 r11 σ12 (fun r14 =>
            (0 ≤ p0 ∧ p0 < 16) ∧
            okI (σ12 48 p0) ∧
            ∀ s19 : Int, s19 = (if 0 ≤ (σ12 48 p0) then r14 else (-r14)) →
            okL s19 ∧
            K s19 σ12))) ∧
      ((r7 ≠ 0) →
        K 0 σ8)))
def wp_m_folded (p0 : Int) (σ : Mem) (K : Int → Mem → Prop) : Prop :=
  wp_m_isRegister p0 (mS σ 45 0 0) (fun r1 =>
    ∀ s4 : Int, s4 = (if r1 ≠ 0 then 0 else 1) →
    wp_m_fails s4 1 (mS σ 45 0 0) (fun r7 σ8 =>
      ((r7 = 0) →
        wp_m_load p0 50 σ8 (fun r11 σ12 =>
          ∀ v7_14 : Int, v7_14 = (r11 - 1) →
          okI v7_14 ∧
          Lq2 (fun v3_16 v7_17 again20 =>
            ((v7_17 < 0) →
              (0 ≤ p0 ∧ p0 < 16) ∧
              okI (σ12 48 p0) ∧
              ∀ s25 : Int, s25 = (if 0 ≤ (σ12 48 p0) then v3_16 else (-v3_16)) →
              okL s25 ∧
              K s25 σ12) ∧
            ((0 ≤ v7_17) →
              Lq2 (fun v3_28 v8_29 again31 =>
                ((16 ≤ v8_29) →
                  (0 ≤ v7_17 ∧ v7_17 < 9000) ∧
                  okI (σ12 50 v7_17) ∧
                  (0 ≤ (v3_28 + (σ12 50 v7_17)) ∧ (v3_28 + (σ12 50 v7_17)) ≤ 9223372036854775807) ∧
                  ∀ v3_36 : Int, v3_36 = ((v3_28 + (σ12 50 v7_17)) % 2305843009213693951) →
                  okI (v7_17 + (-1)) ∧
                  again20 v3_36 (v7_17 + (-1))) ∧
                ((v8_29 < 16) →
                  ∀ v3_40 : Int, v3_40 = (2 * v3_28) →
                  okL v3_40 ∧
                  Jq1 (fun v3_43 => 
                    okI (v8_29 + 1) ∧
                    again31 v3_43 (v8_29 + 1))
                  (fun J44 =>
                    ((v3_40 < 2305843009213693951) →
                      J44 v3_40) ∧
                    ((2305843009213693951 ≤ v3_40) →
                      ∀ v3_47 : Int, v3_47 = (v3_40 - 2305843009213693951) →
                      J44 v3_47)))) v3_16 0)) 0 v7_14)) ∧
      ((r7 ≠ 0) →
        K 0 σ8)))
def wp_m_size (p0 : Int) (σ : Mem) (K : Int → Mem → Prop) : Prop :=
  wp_m_isRegister p0 (mS σ 45 0 0) (fun r1 =>
    ∀ s4 : Int, s4 = (if r1 ≠ 0 then 0 else 1) →
    wp_m_fails s4 1 (mS σ 45 0 0) (fun r7 σ8 =>
      ((r7 = 0) →
        wp_m_size0 p0 σ8 (fun r11 σ12 =>
          K r11 σ12)) ∧
      ((r7 ≠ 0) →
        K 0 σ8)))
