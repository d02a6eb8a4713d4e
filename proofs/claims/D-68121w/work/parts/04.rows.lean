/-! Rows: one for each instruction, over Z. Values are Ints; what must be in range is asked. -/
section ZR
variable {E : ZE} {G : ZG} {cc : ByteArray} {nL kc ks : Nat} {own : String} {Q : State → Prop} {σ : Mem} {pc pc' tgt : Nat} {lv : List (Nat × Value)} {st : List Value}
theorem z_sub (lv' : List (Nat × Value)) (is : List Nat) (h : lv_pick lv is = lv') (k : Z E G nL kc ks Q σ pc lv' st) : Z E G nL kc ks Q σ pc lv st :=
  fun H locs ls hw hl => k H locs ls hw (lv_sub hl is h)
theorem z_iconst (C : Cx E G cc nL own) {n : Int} (hd : DD cc pc (.iconst n) 1 pc') (k : Z E G nL kc ks Q σ pc' lv (.int (iI n) :: st)) : Z E G nL kc ks Q σ pc lv (st) := by
  obtain ⟨hd, rfl⟩ := hd
  intro H locs ls hw hl
  exact lv_iconst C.1 C.2.1 hd rfl (k H locs ls hw hl)
theorem z_bipush (C : Cx E G cc nL own) {n : Int} (hd : DD cc pc (.bipush n) 2 pc') (h : -128 ≤ n ∧ n ≤ 127) (k : Z E G nL kc ks Q σ pc' lv (.int (iI n) :: st)) : Z E G nL kc ks Q σ pc lv (st) := by
  obtain ⟨hd, rfl⟩ := hd
  intro H locs ls hw hl
  exact lv_bipush C.1 C.2.1 hd (Int8.toInt32_ofInt (by rw [show Int8.minValue.toInt = -128 from by decide]; exact h.1) (by rw [show Int8.maxValue.toInt = 127 from by decide]; exact h.2)) (k H locs ls hw hl)
theorem z_sipush (C : Cx E G cc nL own) {n : Int} (hd : DD cc pc (.sipush n) 3 pc') (h : -32768 ≤ n ∧ n ≤ 32767) (k : Z E G nL kc ks Q σ pc' lv (.int (iI n) :: st)) : Z E G nL kc ks Q σ pc lv (st) := by
  obtain ⟨hd, rfl⟩ := hd
  intro H locs ls hw hl
  exact lv_sipush C.1 C.2.1 hd (Int16.toInt32_ofInt (by rw [show Int16.minValue.toInt = -32768 from by decide]; exact h.1) (by rw [show Int16.maxValue.toInt = 32767 from by decide]; exact h.2)) (k H locs ls hw hl)
theorem z_lconst (C : Cx E G cc nL own) {n : Fin 2} (hd : DD cc pc (.lconst n) 1 pc') (k : Z E G nL kc ks Q σ pc' lv (.long (lL (n : Nat)) :: st)) : Z E G nL kc ks Q σ pc lv (st) := by
  obtain ⟨hd, rfl⟩ := hd
  intro H locs ls hw hl
  exact lv_lconst C.1 C.2.1 hd (by rw [lL, Int64.ofInt_eq_ofNat]) (k H locs ls hw hl)
theorem z_ldc (C : Cx E G cc nL own) {i : Nat} {v : Int32} {n : Int} (hd : DD cc pc (.ldc i) 2 pc') (hc : Cond.constant own i v ∈ zT) (hn : v = iI n) (k : Z E G nL kc ks Q σ pc' lv (.int (iI n) :: st)) : Z E G nL kc ks Q σ pc lv (st) := by
  obtain ⟨hd, rfl⟩ := hd
  intro H locs ls hw hl
  subst hn
  exact lv_ldc C.1 C.2.1 C.2.2.2.1 (C.2.2.2.2.1 _ hc) hd (k H locs ls hw hl)
theorem z_ldc2 (C : Cx E G cc nL own) {i : Nat} {v : Int64} {n : Int} (hd : DD cc pc (.ldc2_w i) 3 pc') (hc : Cond.constantLong own i v ∈ zT) (hn : v = lL n) (k : Z E G nL kc ks Q σ pc' lv (.long (lL n) :: st)) : Z E G nL kc ks Q σ pc lv (st) := by
  obtain ⟨hd, rfl⟩ := hd
  intro H locs ls hw hl
  subst hn
  exact lv_ldc2 C.1 C.2.1 C.2.2.2.1 (C.2.2.2.2.1 _ hc) hd (k H locs ls hw hl)
theorem z_ldcw (C : Cx E G cc nL own) {i : Nat} {v : Int32} {n : Int} (hd : DD cc pc (.ldc_w i) 3 pc') (hc : Cond.constant own i v ∈ zT) (hn : v = iI n) (k : Z E G nL kc ks Q σ pc' lv (.int (iI n) :: st)) : Z E G nL kc ks Q σ pc lv st := by
  obtain ⟨hd, rfl⟩ := hd
  intro H locs ls hw hl
  subst hn
  exact lv_ldcw C.1 C.2.1 C.2.2.2.1 (C.2.2.2.2.1 _ hc) hd (k H locs ls hw hl)
theorem z_iload_n (C : Cx E G cc nL own) (q : Nat) {i : Fin 4} {x : Int} (hd : DD cc pc (.iload_n i) 1 pc') (hv : lv[q]? = some ((i : Nat), .int (iI x))) (k : Z E G nL kc ks Q σ pc' lv (.int (iI x) :: st)) : Z E G nL kc ks Q σ pc lv st := by
  obtain ⟨hd, rfl⟩ := hd
  intro H locs ls hw hl
  exact lv_iload_n C.1 C.2.1 hd rfl (lv_at hl q hv) (k H locs ls hw hl)
theorem z_iload (C : Cx E G cc nL own) (q : Nat) {i : Nat} {x : Int} (hd : DD cc pc (.iload i) 2 pc') (hv : lv[q]? = some (i, .int (iI x))) (k : Z E G nL kc ks Q σ pc' lv (.int (iI x) :: st)) : Z E G nL kc ks Q σ pc lv st := by
  obtain ⟨hd, rfl⟩ := hd
  intro H locs ls hw hl
  exact lv_iload C.1 C.2.1 hd (lv_at hl q hv) (k H locs ls hw hl)
theorem z_istore_n (C : Cx E G cc nL own) (lv' : List (Nat × Value)) {i : Fin 4} {x : Int} (hd : DD cc pc (.istore_n i) 1 pc') (hn : (i : Nat) < nL) (he : ((i : Nat), .int (iI x)) :: lv.filter (fun q => !(q.1 == (i : Nat)) && !(q.1 + 1 == (i : Nat) && q.2.category == 2)) = lv') (k : Z E G nL kc ks Q σ pc' lv' st) : Z E G nL kc ks Q σ pc lv (.int (iI x) :: st) := by
  obtain ⟨hd, rfl⟩ := hd
  intro H locs ls hw hl
  exact lv_istore_n C.1 C.2.1 hd rfl hl hn he (fun ls' hl' => k H locs ls' hw hl')
theorem z_istore (C : Cx E G cc nL own) (lv' : List (Nat × Value)) {i : Nat} {x : Int} (hd : DD cc pc (.istore i) 2 pc') (hn : i < nL) (he : (i, .int (iI x)) :: lv.filter (fun q => !(q.1 == i) && !(q.1 + 1 == i && q.2.category == 2)) = lv') (k : Z E G nL kc ks Q σ pc' lv' st) : Z E G nL kc ks Q σ pc lv (.int (iI x) :: st) := by
  obtain ⟨hd, rfl⟩ := hd
  intro H locs ls hw hl
  exact lv_istore C.1 C.2.1 hd hl hn he (fun ls' hl' => k H locs ls' hw hl')
theorem z_lload_n (C : Cx E G cc nL own) (q : Nat) {i : Fin 4} {x : Int} (hd : DD cc pc (.lload_n i) 1 pc') (hv : lv[q]? = some ((i : Nat), .long (lL x))) (k : Z E G nL kc ks Q σ pc' lv (.long (lL x) :: st)) : Z E G nL kc ks Q σ pc lv st := by
  obtain ⟨hd, rfl⟩ := hd
  intro H locs ls hw hl
  exact lv_lload_n C.1 C.2.1 hd rfl (lv_at hl q hv) (k H locs ls hw hl)
theorem z_lload (C : Cx E G cc nL own) (q : Nat) {i : Nat} {x : Int} (hd : DD cc pc (.lload i) 2 pc') (hv : lv[q]? = some (i, .long (lL x))) (k : Z E G nL kc ks Q σ pc' lv (.long (lL x) :: st)) : Z E G nL kc ks Q σ pc lv st := by
  obtain ⟨hd, rfl⟩ := hd
  intro H locs ls hw hl
  exact lv_lload C.1 C.2.1 hd (lv_at hl q hv) (k H locs ls hw hl)
theorem z_lstore_n (C : Cx E G cc nL own) (lv' : List (Nat × Value)) {i : Fin 4} {x : Int} (hd : DD cc pc (.lstore_n i) 1 pc') (hn : (i : Nat) + 1 < nL) (he : ((i : Nat), .long (lL x)) :: lv.filter (fun q => !(q.1 == (i : Nat)) && (!(q.1 == (i : Nat) + 1) && !(q.1 + 1 == (i : Nat) && q.2.category == 2))) = lv') (k : Z E G nL kc ks Q σ pc' lv' st) : Z E G nL kc ks Q σ pc lv (.long (lL x) :: st) := by
  obtain ⟨hd, rfl⟩ := hd
  intro H locs ls hw hl
  exact lv_lstore_n C.1 C.2.1 hd rfl hl hn he (fun ls' hl' => k H locs ls' hw hl')
theorem z_lstore (C : Cx E G cc nL own) (lv' : List (Nat × Value)) {i : Nat} {x : Int} (hd : DD cc pc (.lstore i) 2 pc') (hn : i + 1 < nL) (he : (i, .long (lL x)) :: lv.filter (fun q => !(q.1 == i) && (!(q.1 == i + 1) && !(q.1 + 1 == i && q.2.category == 2))) = lv') (k : Z E G nL kc ks Q σ pc' lv' st) : Z E G nL kc ks Q σ pc lv (.long (lL x) :: st) := by
  obtain ⟨hd, rfl⟩ := hd
  intro H locs ls hw hl
  exact lv_lstore C.1 C.2.1 hd hl hn he (fun ls' hl' => k H locs ls' hw hl')
theorem z_aload_n (C : Cx E G cc nL own) (q : Nat) {i : Fin 4} {x : Nat} (hd : DD cc pc (.aload_n i) 1 pc') (hv : lv[q]? = some ((i : Nat), .ref x)) (k : Z E G nL kc ks Q σ pc' lv (.ref x :: st)) : Z E G nL kc ks Q σ pc lv st := by
  obtain ⟨hd, rfl⟩ := hd
  intro H locs ls hw hl
  exact lv_aload_n C.1 C.2.1 hd rfl (lv_at hl q hv) (k H locs ls hw hl)
theorem z_aload (C : Cx E G cc nL own) (q : Nat) {i : Nat} {x : Nat} (hd : DD cc pc (.aload i) 2 pc') (hv : lv[q]? = some (i, .ref x)) (k : Z E G nL kc ks Q σ pc' lv (.ref x :: st)) : Z E G nL kc ks Q σ pc lv st := by
  obtain ⟨hd, rfl⟩ := hd
  intro H locs ls hw hl
  exact lv_aload C.1 C.2.1 hd (lv_at hl q hv) (k H locs ls hw hl)
theorem z_astore_n (C : Cx E G cc nL own) (lv' : List (Nat × Value)) {i : Fin 4} {x : Nat} (hd : DD cc pc (.astore_n i) 1 pc') (hn : (i : Nat) < nL) (he : ((i : Nat), .ref x) :: lv.filter (fun q => !(q.1 == (i : Nat)) && !(q.1 + 1 == (i : Nat) && q.2.category == 2)) = lv') (k : Z E G nL kc ks Q σ pc' lv' st) : Z E G nL kc ks Q σ pc lv (.ref x :: st) := by
  obtain ⟨hd, rfl⟩ := hd
  intro H locs ls hw hl
  exact lv_astore_n C.1 C.2.1 hd rfl hl hn he (fun ls' hl' => k H locs ls' hw hl')
theorem z_astore (C : Cx E G cc nL own) (lv' : List (Nat × Value)) {i : Nat} {x : Nat} (hd : DD cc pc (.astore i) 2 pc') (hn : i < nL) (he : (i, .ref x) :: lv.filter (fun q => !(q.1 == i) && !(q.1 + 1 == i && q.2.category == 2)) = lv') (k : Z E G nL kc ks Q σ pc' lv' st) : Z E G nL kc ks Q σ pc lv (.ref x :: st) := by
  obtain ⟨hd, rfl⟩ := hd
  intro H locs ls hw hl
  exact lv_astore C.1 C.2.1 hd hl hn he (fun ls' hl' => k H locs ls' hw hl')
theorem z_iinc (C : Cx E G cc nL own) (q : Nat) (lv' : List (Nat × Value)) {i : Nat} {n x : Int} (hd : DD cc pc (.iinc i n) 3 pc') (hv : lv[q]? = some (i, .int (iI x))) (hn : i < nL) (he : (i, Value.int (iI (x + n))) :: lv.filter (fun q => !(q.1 == i) && !(q.1 + 1 == i && q.2.category == 2)) = lv') (k : Z E G nL kc ks Q σ pc' lv' st) : Z E G nL kc ks Q σ pc lv st := by
  obtain ⟨hd, rfl⟩ := hd
  intro H locs ls hw hl
  exact lv_iinc C.1 C.2.1 hd hl hv (iI_add x n) hn he (fun ls' hl' => k H locs ls' hw hl')
theorem z_iadd (C : Cx E G cc nL own) {x y : Int} (hd : DD cc pc .iadd 1 pc') (k : Z E G nL kc ks Q σ pc' lv (.int (iI (x + y)) :: st)) : Z E G nL kc ks Q σ pc lv (.int (iI y) :: .int (iI x) :: st) := by
  obtain ⟨hd, rfl⟩ := hd
  intro H locs ls hw hl
  refine lv_iadd C.1 C.2.1 hd ?_
  rw [iI_add]; exact k H locs ls hw hl
theorem z_isub (C : Cx E G cc nL own) {x y : Int} (hd : DD cc pc .isub 1 pc') (k : Z E G nL kc ks Q σ pc' lv (.int (iI (x - y)) :: st)) : Z E G nL kc ks Q σ pc lv (.int (iI y) :: .int (iI x) :: st) := by
  obtain ⟨hd, rfl⟩ := hd
  intro H locs ls hw hl
  refine lv_isub C.1 C.2.1 hd ?_
  rw [iI_sub]; exact k H locs ls hw hl
theorem z_imul (C : Cx E G cc nL own) {x y : Int} (hd : DD cc pc .imul 1 pc') (k : Z E G nL kc ks Q σ pc' lv (.int (iI (x * y)) :: st)) : Z E G nL kc ks Q σ pc lv (.int (iI y) :: .int (iI x) :: st) := by
  obtain ⟨hd, rfl⟩ := hd
  intro H locs ls hw hl
  refine lv_imul C.1 C.2.1 hd ?_
  rw [iI_mul]; exact k H locs ls hw hl
theorem z_ineg (C : Cx E G cc nL own) {x : Int} (hd : DD cc pc .ineg 1 pc') (k : Z E G nL kc ks Q σ pc' lv (.int (iI (-x)) :: st)) : Z E G nL kc ks Q σ pc lv (.int (iI x) :: st) := by
  obtain ⟨hd, rfl⟩ := hd
  intro H locs ls hw hl
  refine lv_ineg C.1 C.2.1 hd ?_
  rw [iI_neg]; exact k H locs ls hw hl
theorem z_imask (C : Cx E G cc nL own) (kk : Nat) (p : Int) {x c : Int} (hd : DD cc pc .iand 1 pc') (hp : p = ((2 ^ kk : Nat) : Int)) (hk : kk ≤ 31) (hc : c = p - 1) (k : Z E G nL kc ks Q σ pc' lv (.int (iI (x % p)) :: st)) : Z E G nL kc ks Q σ pc lv (.int (iI c) :: .int (iI x) :: st) := by
  obtain ⟨hd, rfl⟩ := hd
  intro H locs ls hw hl
  refine lv_iand C.1 C.2.1 hd ?_
  rw [hc, iI_mask x kk p hp hk]; exact k H locs ls hw hl
theorem z_idiv (C : Cx E G cc nL own) {x y : Int} (hd : DD cc pc .idiv 1 pc') (hx : 0 ≤ x ∧ x ≤ 2147483647) (hy : 0 < y ∧ y ≤ 2147483647) (k : Z E G nL kc ks Q σ pc' lv (.int (iI (x / y)) :: st)) : Z E G nL kc ks Q σ pc lv (.int (iI y) :: .int (iI x) :: st) := by
  obtain ⟨hd, rfl⟩ := hd
  intro H locs ls hw hl
  refine lv_idiv C.1 C.2.1 hd (fun q => ?_) ?_
  · have h0 : iI y = iI 0 := q.trans (by decide)
    rw [iI_eq ⟨by omega, by omega⟩ ⟨by decide, by decide⟩] at h0
    omega
  · rw [iI_div hx hy]; exact k H locs ls hw hl
theorem z_irem (C : Cx E G cc nL own) {x y : Int} (hd : DD cc pc .irem 1 pc') (hx : 0 ≤ x ∧ x ≤ 2147483647) (hy : 0 < y ∧ y ≤ 2147483647) (k : Z E G nL kc ks Q σ pc' lv (.int (iI (x % y)) :: st)) : Z E G nL kc ks Q σ pc lv (.int (iI y) :: .int (iI x) :: st) := by
  obtain ⟨hd, rfl⟩ := hd
  intro H locs ls hw hl
  refine lv_irem C.1 C.2.1 hd (fun q => ?_) ?_
  · have h0 : iI y = iI 0 := q.trans (by decide)
    rw [iI_eq ⟨by omega, by omega⟩ ⟨by decide, by decide⟩] at h0
    omega
  · rw [iI_rem hx hy]; exact k H locs ls hw hl
theorem z_ladd (C : Cx E G cc nL own) {x y : Int} (hd : DD cc pc .ladd 1 pc') (k : Z E G nL kc ks Q σ pc' lv (.long (lL (x + y)) :: st)) : Z E G nL kc ks Q σ pc lv (.long (lL y) :: .long (lL x) :: st) := by
  obtain ⟨hd, rfl⟩ := hd
  intro H locs ls hw hl
  refine lv_ladd C.1 C.2.1 hd ?_
  rw [lL_add]; exact k H locs ls hw hl
theorem z_lsub (C : Cx E G cc nL own) {x y : Int} (hd : DD cc pc .lsub 1 pc') (k : Z E G nL kc ks Q σ pc' lv (.long (lL (x - y)) :: st)) : Z E G nL kc ks Q σ pc lv (.long (lL y) :: .long (lL x) :: st) := by
  obtain ⟨hd, rfl⟩ := hd
  intro H locs ls hw hl
  refine lv_lsub C.1 C.2.1 hd ?_
  rw [lL_sub]; exact k H locs ls hw hl
theorem z_lmul (C : Cx E G cc nL own) {x y : Int} (hd : DD cc pc .lmul 1 pc') (k : Z E G nL kc ks Q σ pc' lv (.long (lL (x * y)) :: st)) : Z E G nL kc ks Q σ pc lv (.long (lL y) :: .long (lL x) :: st) := by
  obtain ⟨hd, rfl⟩ := hd
  intro H locs ls hw hl
  refine lv_lmul C.1 C.2.1 hd ?_
  rw [lL_mul]; exact k H locs ls hw hl
theorem z_lneg (C : Cx E G cc nL own) {x : Int} (hd : DD cc pc .lneg 1 pc') (k : Z E G nL kc ks Q σ pc' lv (.long (lL (-x)) :: st)) : Z E G nL kc ks Q σ pc lv (.long (lL x) :: st) := by
  obtain ⟨hd, rfl⟩ := hd
  intro H locs ls hw hl
  refine lv_lneg C.1 C.2.1 hd ?_
  rw [lL_neg]; exact k H locs ls hw hl
theorem z_lmask (C : Cx E G cc nL own) (kk : Nat) (p : Int) {x c : Int} (hd : DD cc pc .land 1 pc') (hp : p = ((2 ^ kk : Nat) : Int)) (hk : kk ≤ 63) (hc : c = p - 1) (k : Z E G nL kc ks Q σ pc' lv (.long (lL (x % p)) :: st)) : Z E G nL kc ks Q σ pc lv (.long (lL c) :: .long (lL x) :: st) := by
  obtain ⟨hd, rfl⟩ := hd
  intro H locs ls hw hl
  refine lv_land C.1 C.2.1 hd ?_
  rw [hc, lL_mask x kk p hp hk]; exact k H locs ls hw hl
theorem z_ldiv (C : Cx E G cc nL own) {x y : Int} (hd : DD cc pc .ldiv 1 pc') (hx : 0 ≤ x ∧ x ≤ 9223372036854775807) (hy : 0 < y ∧ y ≤ 9223372036854775807) (k : Z E G nL kc ks Q σ pc' lv (.long (lL (x / y)) :: st)) : Z E G nL kc ks Q σ pc lv (.long (lL y) :: .long (lL x) :: st) := by
  obtain ⟨hd, rfl⟩ := hd
  intro H locs ls hw hl
  refine lv_ldiv C.1 C.2.1 hd (fun q => ?_) ?_
  · have h0 : lL y = lL 0 := q.trans (by decide)
    rw [lL_eq ⟨by omega, by omega⟩ ⟨by decide, by decide⟩] at h0
    omega
  · rw [lL_div hx hy]; exact k H locs ls hw hl
theorem z_lrem (C : Cx E G cc nL own) {x y : Int} (hd : DD cc pc .lrem 1 pc') (hx : 0 ≤ x ∧ x ≤ 9223372036854775807) (hy : 0 < y ∧ y ≤ 9223372036854775807) (k : Z E G nL kc ks Q σ pc' lv (.long (lL (x % y)) :: st)) : Z E G nL kc ks Q σ pc lv (.long (lL y) :: .long (lL x) :: st) := by
  obtain ⟨hd, rfl⟩ := hd
  intro H locs ls hw hl
  refine lv_lrem C.1 C.2.1 hd (fun q => ?_) ?_
  · have h0 : lL y = lL 0 := q.trans (by decide)
    rw [lL_eq ⟨by omega, by omega⟩ ⟨by decide, by decide⟩] at h0
    omega
  · rw [lL_rem hx hy]; exact k H locs ls hw hl
theorem z_iand (C : Cx E G cc nL own) {x y : Int} (hd : DD cc pc .iand 1 pc') (k : Z E G nL kc ks Q σ pc' lv (.int (iI (anI x y)) :: st)) : Z E G nL kc ks Q σ pc lv (.int (iI y) :: .int (iI x) :: st) := by
  obtain ⟨hd, rfl⟩ := hd
  intro H locs ls hw hl
  refine lv_iand C.1 C.2.1 hd ?_
  rw [anI_def]; exact k H locs ls hw hl
theorem z_ior (C : Cx E G cc nL own) {x y : Int} (hd : DD cc pc .ior 1 pc') (k : Z E G nL kc ks Q σ pc' lv (.int (iI (orI x y)) :: st)) : Z E G nL kc ks Q σ pc lv (.int (iI y) :: .int (iI x) :: st) := by
  obtain ⟨hd, rfl⟩ := hd
  intro H locs ls hw hl
  refine lv_ior C.1 C.2.1 hd ?_
  rw [orI_def]; exact k H locs ls hw hl
theorem z_ixor (C : Cx E G cc nL own) {x y : Int} (hd : DD cc pc .ixor 1 pc') (k : Z E G nL kc ks Q σ pc' lv (.int (iI (xoI x y)) :: st)) : Z E G nL kc ks Q σ pc lv (.int (iI y) :: .int (iI x) :: st) := by
  obtain ⟨hd, rfl⟩ := hd
  intro H locs ls hw hl
  refine lv_ixor C.1 C.2.1 hd ?_
  rw [xoI_def]; exact k H locs ls hw hl
theorem z_inot (C : Cx E G cc nL own) {x : Int} (hd : DD cc pc .ixor 1 pc') (k : Z E G nL kc ks Q σ pc' lv (.int (iI (-x - 1)) :: st)) : Z E G nL kc ks Q σ pc lv (.int (iI (-1)) :: .int (iI x) :: st) := by
  obtain ⟨hd, rfl⟩ := hd
  intro H locs ls hw hl
  refine lv_ixor C.1 C.2.1 hd ?_
  rw [iI_not]; exact k H locs ls hw hl
theorem z_lor (C : Cx E G cc nL own) {x y : Int} (hd : DD cc pc .lor 1 pc') (k : Z E G nL kc ks Q σ pc' lv (.long (lL (orL x y)) :: st)) : Z E G nL kc ks Q σ pc lv (.long (lL y) :: .long (lL x) :: st) := by
  obtain ⟨hd, rfl⟩ := hd
  intro H locs ls hw hl
  refine lv_lor C.1 C.2.1 hd ?_
  rw [orL_def]; exact k H locs ls hw hl
theorem z_ishl (C : Cx E G cc nL own) {x s : Int} (hd : DD cc pc .ishl 1 pc') (h : 0 ≤ s ∧ s < 32) (k : Z E G nL kc ks Q σ pc' lv (.int (iI (x * 2 ^ s.toNat)) :: st)) : Z E G nL kc ks Q σ pc lv (.int (iI s) :: .int (iI x) :: st) := by
  obtain ⟨hd, rfl⟩ := hd
  intro H locs ls hw hl
  refine lv_ishl C.1 C.2.1 hd ?_
  rw [iI_shl x h]; exact k H locs ls hw hl
theorem z_ishr (C : Cx E G cc nL own) {x s : Int} (hd : DD cc pc .ishr 1 pc') (hx : okI x) (h : 0 ≤ s ∧ s < 32) (k : Z E G nL kc ks Q σ pc' lv (.int (iI (x / 2 ^ s.toNat)) :: st)) : Z E G nL kc ks Q σ pc lv (.int (iI s) :: .int (iI x) :: st) := by
  obtain ⟨hd, rfl⟩ := hd
  intro H locs ls hw hl
  refine lv_ishr C.1 C.2.1 hd ?_
  rw [iI_shr hx h]; exact k H locs ls hw hl
theorem z_iushr (C : Cx E G cc nL own) {x s : Int} (hd : DD cc pc .iushr 1 pc') (hx : 0 ≤ x ∧ x ≤ 2147483647) (h : 0 ≤ s ∧ s < 32) (k : Z E G nL kc ks Q σ pc' lv (.int (iI (x / 2 ^ s.toNat)) :: st)) : Z E G nL kc ks Q σ pc lv (.int (iI s) :: .int (iI x) :: st) := by
  obtain ⟨hd, rfl⟩ := hd
  intro H locs ls hw hl
  exact lv_iushr C.1 C.2.1 hd (iI_ushr hx h) (k H locs ls hw hl)
theorem z_lshl (C : Cx E G cc nL own) {x s : Int} (hd : DD cc pc .lshl 1 pc') (h : 0 ≤ s ∧ s < 64) (k : Z E G nL kc ks Q σ pc' lv (.long (lL (x * 2 ^ s.toNat)) :: st)) : Z E G nL kc ks Q σ pc lv (.int (iI s) :: .long (lL x) :: st) := by
  obtain ⟨hd, rfl⟩ := hd
  intro H locs ls hw hl
  exact lv_lshl C.1 C.2.1 hd (lL_shl x h) (k H locs ls hw hl)
theorem z_lshr (C : Cx E G cc nL own) {x s : Int} (hd : DD cc pc .lshr 1 pc') (hx : okL x) (h : 0 ≤ s ∧ s < 64) (k : Z E G nL kc ks Q σ pc' lv (.long (lL (x / 2 ^ s.toNat)) :: st)) : Z E G nL kc ks Q σ pc lv (.int (iI s) :: .long (lL x) :: st) := by
  obtain ⟨hd, rfl⟩ := hd
  intro H locs ls hw hl
  exact lv_lshr C.1 C.2.1 hd (lL_shr hx h) (k H locs ls hw hl)
theorem z_lushr (C : Cx E G cc nL own) {x s : Int} (hd : DD cc pc .lushr 1 pc') (h : 0 ≤ s ∧ s < 64) (k : Z E G nL kc ks Q σ pc' lv (.long (lL (x % 18446744073709551616 / 2 ^ s.toNat)) :: st)) : Z E G nL kc ks Q σ pc lv (.int (iI s) :: .long (lL x) :: st) := by
  obtain ⟨hd, rfl⟩ := hd
  intro H locs ls hw hl
  exact lv_lushr C.1 C.2.1 hd (lL_ushr x h) (k H locs ls hw hl)
theorem z_ishlK (C : Cx E G cc nL own) (p : Int) {x s : Int} (hd : DD cc pc .ishl 1 pc') (hp : (2 : Int) ^ s.toNat = p) (h : 0 ≤ s ∧ s < 32) (k : Z E G nL kc ks Q σ pc' lv (.int (iI (x * p)) :: st)) : Z E G nL kc ks Q σ pc lv (.int (iI s) :: .int (iI x) :: st) := by
  subst hp
  exact z_ishl C hd h k
theorem z_ishrK (C : Cx E G cc nL own) (p : Int) {x s : Int} (hd : DD cc pc .ishr 1 pc') (hp : (2 : Int) ^ s.toNat = p) (hx : okI x) (h : 0 ≤ s ∧ s < 32) (k : Z E G nL kc ks Q σ pc' lv (.int (iI (x / p)) :: st)) : Z E G nL kc ks Q σ pc lv (.int (iI s) :: .int (iI x) :: st) := by
  subst hp
  exact z_ishr C hd hx h k
theorem z_iushrK (C : Cx E G cc nL own) (p : Int) {x s : Int} (hd : DD cc pc .iushr 1 pc') (hp : (2 : Int) ^ s.toNat = p) (hx : 0 ≤ x ∧ x ≤ 2147483647) (h : 0 ≤ s ∧ s < 32) (k : Z E G nL kc ks Q σ pc' lv (.int (iI (x / p)) :: st)) : Z E G nL kc ks Q σ pc lv (.int (iI s) :: .int (iI x) :: st) := by
  subst hp
  exact z_iushr C hd hx h k
theorem z_lshlK (C : Cx E G cc nL own) (p : Int) {x s : Int} (hd : DD cc pc .lshl 1 pc') (hp : (2 : Int) ^ s.toNat = p) (h : 0 ≤ s ∧ s < 64) (k : Z E G nL kc ks Q σ pc' lv (.long (lL (x * p)) :: st)) : Z E G nL kc ks Q σ pc lv (.int (iI s) :: .long (lL x) :: st) := by
  subst hp
  exact z_lshl C hd h k
theorem z_lshrK (C : Cx E G cc nL own) (p : Int) {x s : Int} (hd : DD cc pc .lshr 1 pc') (hp : (2 : Int) ^ s.toNat = p) (hx : okL x) (h : 0 ≤ s ∧ s < 64) (k : Z E G nL kc ks Q σ pc' lv (.long (lL (x / p)) :: st)) : Z E G nL kc ks Q σ pc lv (.int (iI s) :: .long (lL x) :: st) := by
  subst hp
  exact z_lshr C hd hx h k
theorem z_lushrK (C : Cx E G cc nL own) (p : Int) {x s : Int} (hd : DD cc pc .lushr 1 pc') (hp : (2 : Int) ^ s.toNat = p) (h : 0 ≤ s ∧ s < 64) (k : Z E G nL kc ks Q σ pc' lv (.long (lL (x % 18446744073709551616 / p)) :: st)) : Z E G nL kc ks Q σ pc lv (.int (iI s) :: .long (lL x) :: st) := by
  subst hp
  exact z_lushr C hd h k
theorem z_i2l (C : Cx E G cc nL own) {x : Int} (hd : DD cc pc .i2l 1 pc') (hx : okI x) (k : Z E G nL kc ks Q σ pc' lv (.long (lL x) :: st)) : Z E G nL kc ks Q σ pc lv (.int (iI x) :: st) := by
  obtain ⟨hd, rfl⟩ := hd
  intro H locs ls hw hl
  exact lv_i2l C.1 C.2.1 hd (iI_l hx) (k H locs ls hw hl)
theorem z_l2i (C : Cx E G cc nL own) {x : Int} (hd : DD cc pc .l2i 1 pc') (k : Z E G nL kc ks Q σ pc' lv (.int (iI x) :: st)) : Z E G nL kc ks Q σ pc lv (.long (lL x) :: st) := by
  obtain ⟨hd, rfl⟩ := hd
  intro H locs ls hw hl
  exact lv_l2i C.1 C.2.1 hd (lL_i x) (k H locs ls hw hl)
theorem z_i2b (C : Cx E G cc nL own) {x : Int} (hd : DD cc pc .i2b 1 pc') (k : Z E G nL kc ks Q σ pc' lv (.int (iI (x.bmod 256)) :: st)) : Z E G nL kc ks Q σ pc lv (.int (iI x) :: st) := by
  obtain ⟨hd, rfl⟩ := hd
  intro H locs ls hw hl
  exact lv_i2b C.1 C.2.1 hd (iI_b x) (k H locs ls hw hl)
theorem z_dup (C : Cx E G cc nL own) {v : Value} (hd : DD cc pc .dup 1 pc') (hv : v.category = 1) (k : Z E G nL kc ks Q σ pc' lv (v :: v :: st)) : Z E G nL kc ks Q σ pc lv (v :: st) := by
  obtain ⟨hd, rfl⟩ := hd
  intro H locs ls hw hl
  exact lv_dup C.1 C.2.1 hd hv (k H locs ls hw hl)
theorem z_pop (C : Cx E G cc nL own) {v : Value} (hd : DD cc pc .pop 1 pc') (hv : v.category = 1) (k : Z E G nL kc ks Q σ pc' lv (st)) : Z E G nL kc ks Q σ pc lv (v :: st) := by
  obtain ⟨hd, rfl⟩ := hd
  intro H locs ls hw hl
  exact lv_pop C.1 C.2.1 hd hv (k H locs ls hw hl)
theorem z_dup_x1 (C : Cx E G cc nL own) {v u : Value} (hd : DD cc pc .dup_x1 1 pc') (hv : v.category = 1) (hu : u.category = 1) (k : Z E G nL kc ks Q σ pc' lv (v :: u :: v :: st)) : Z E G nL kc ks Q σ pc lv (v :: u :: st) := by
  obtain ⟨hd, rfl⟩ := hd
  intro H locs ls hw hl
  exact lv_dup_x1 C.1 C.2.1 hd hv hu (k H locs ls hw hl)
theorem z_dup2 (C : Cx E G cc nL own) {v u : Value} (hd : DD cc pc .dup2 1 pc') (hv : v.category = 1) (hu : u.category = 1) (k : Z E G nL kc ks Q σ pc' lv (v :: u :: v :: u :: st)) : Z E G nL kc ks Q σ pc lv (v :: u :: st) := by
  obtain ⟨hd, rfl⟩ := hd
  intro H locs ls hw hl
  exact lv_dup2_11 C.1 C.2.1 hd hv hu (k H locs ls hw hl)
theorem z_goto (C : Cx E G cc nL own) {off : Int} (hd : DB cc pc (.goto off) off pc' tgt) (k : Z E G nL kc ks Q σ tgt lv st) : Z E G nL kc ks Q σ pc lv st := by
  obtain ⟨hd, -, ht⟩ := hd
  intro H locs ls hw hl
  exact lv_goto C.1 C.2.1 hd ht (k H locs ls hw hl)
theorem z_icmp_eq (C : Cx E G cc nL own) {off x y : Int} (hd : DB cc pc (.if_icmp .eq off) off pc' tgt) (hx : okI x) (hy : okI y) (kt : x = y → Z E G nL kc ks Q σ tgt lv st) (kf : x ≠ y → Z E G nL kc ks Q σ pc' lv st) : Z E G nL kc ks Q σ pc lv (.int (iI y) :: .int (iI x) :: st) := by
  obtain ⟨hd, rfl, ht⟩ := hd
  intro H locs ls hw hl
  exact lv_icmp_eq C.1 C.2.1 hd ht (fun h => kt ((iI_eq hx hy).mp h) H locs ls hw hl) (fun h => kf (fun q => h ((iI_eq hx hy).mpr q)) H locs ls hw hl)
theorem z_if_eq (C : Cx E G cc nL own) {off x : Int} (hd : DB cc pc (.ifCond .eq off) off pc' tgt) (hx : okI x) (kt : x = 0 → Z E G nL kc ks Q σ tgt lv st) (kf : x ≠ 0 → Z E G nL kc ks Q σ pc' lv st) : Z E G nL kc ks Q σ pc lv (.int (iI x) :: st) := by
  obtain ⟨hd, rfl, ht⟩ := hd
  intro H locs ls hw hl
  have hy : okI 0 := ⟨by decide, by decide⟩
  have e0 : iI 0 = 0 := by decide
  exact lv_if_eq C.1 C.2.1 hd ht (fun h => kt ((iI_eq hx hy).mp (by rw [e0]; exact h)) H locs ls hw hl) (fun h => kf (fun q => h (by have q9 := ((iI_eq hx hy).mpr q); rw [e0] at q9; exact q9)) H locs ls hw hl)
theorem z_icmp_ne (C : Cx E G cc nL own) {off x y : Int} (hd : DB cc pc (.if_icmp .ne off) off pc' tgt) (hx : okI x) (hy : okI y) (kt : x ≠ y → Z E G nL kc ks Q σ tgt lv st) (kf : x = y → Z E G nL kc ks Q σ pc' lv st) : Z E G nL kc ks Q σ pc lv (.int (iI y) :: .int (iI x) :: st) := by
  obtain ⟨hd, rfl, ht⟩ := hd
  intro H locs ls hw hl
  exact lv_icmp_ne C.1 C.2.1 hd ht (fun h => kt (fun q => h ((iI_eq hx hy).mpr q)) H locs ls hw hl) (fun h => kf ((iI_eq hx hy).mp h) H locs ls hw hl)
theorem z_if_ne (C : Cx E G cc nL own) {off x : Int} (hd : DB cc pc (.ifCond .ne off) off pc' tgt) (hx : okI x) (kt : x ≠ 0 → Z E G nL kc ks Q σ tgt lv st) (kf : x = 0 → Z E G nL kc ks Q σ pc' lv st) : Z E G nL kc ks Q σ pc lv (.int (iI x) :: st) := by
  obtain ⟨hd, rfl, ht⟩ := hd
  intro H locs ls hw hl
  have hy : okI 0 := ⟨by decide, by decide⟩
  have e0 : iI 0 = 0 := by decide
  exact lv_if_ne C.1 C.2.1 hd ht (fun h => kt (fun q => h (by have q9 := ((iI_eq hx hy).mpr q); rw [e0] at q9; exact q9)) H locs ls hw hl) (fun h => kf ((iI_eq hx hy).mp (by rw [e0]; exact h)) H locs ls hw hl)
theorem z_icmp_lt (C : Cx E G cc nL own) {off x y : Int} (hd : DB cc pc (.if_icmp .lt off) off pc' tgt) (hx : okI x) (hy : okI y) (kt : x < y → Z E G nL kc ks Q σ tgt lv st) (kf : y ≤ x → Z E G nL kc ks Q σ pc' lv st) : Z E G nL kc ks Q σ pc lv (.int (iI y) :: .int (iI x) :: st) := by
  obtain ⟨hd, rfl, ht⟩ := hd
  intro H locs ls hw hl
  exact lv_icmp_lt C.1 C.2.1 hd ht (fun h => kt ((iI_lt hx hy).mp h) H locs ls hw hl) (fun h => kf (Int.not_lt.mp (fun q => h ((iI_lt hx hy).mpr q))) H locs ls hw hl)
theorem z_if_lt (C : Cx E G cc nL own) {off x : Int} (hd : DB cc pc (.ifCond .lt off) off pc' tgt) (hx : okI x) (kt : x < 0 → Z E G nL kc ks Q σ tgt lv st) (kf : 0 ≤ x → Z E G nL kc ks Q σ pc' lv st) : Z E G nL kc ks Q σ pc lv (.int (iI x) :: st) := by
  obtain ⟨hd, rfl, ht⟩ := hd
  intro H locs ls hw hl
  have hy : okI 0 := ⟨by decide, by decide⟩
  have e0 : iI 0 = 0 := by decide
  exact lv_if_lt C.1 C.2.1 hd ht (fun h => kt ((iI_lt hx hy).mp (by rw [e0]; exact h)) H locs ls hw hl) (fun h => kf (Int.not_lt.mp (fun q => h (by have q9 := ((iI_lt hx hy).mpr q); rw [e0] at q9; exact q9))) H locs ls hw hl)
theorem z_icmp_ge (C : Cx E G cc nL own) {off x y : Int} (hd : DB cc pc (.if_icmp .ge off) off pc' tgt) (hx : okI x) (hy : okI y) (kt : y ≤ x → Z E G nL kc ks Q σ tgt lv st) (kf : x < y → Z E G nL kc ks Q σ pc' lv st) : Z E G nL kc ks Q σ pc lv (.int (iI y) :: .int (iI x) :: st) := by
  obtain ⟨hd, rfl, ht⟩ := hd
  intro H locs ls hw hl
  exact lv_icmp_ge C.1 C.2.1 hd ht (fun h => kt ((iI_le hy hx).mp h) H locs ls hw hl) (fun h => kf (Int.not_le.mp (fun q => h ((iI_le hy hx).mpr q))) H locs ls hw hl)
theorem z_if_ge (C : Cx E G cc nL own) {off x : Int} (hd : DB cc pc (.ifCond .ge off) off pc' tgt) (hx : okI x) (kt : 0 ≤ x → Z E G nL kc ks Q σ tgt lv st) (kf : x < 0 → Z E G nL kc ks Q σ pc' lv st) : Z E G nL kc ks Q σ pc lv (.int (iI x) :: st) := by
  obtain ⟨hd, rfl, ht⟩ := hd
  intro H locs ls hw hl
  have hy : okI 0 := ⟨by decide, by decide⟩
  have e0 : iI 0 = 0 := by decide
  exact lv_if_ge C.1 C.2.1 hd ht (fun h => kt ((iI_le hy hx).mp (by rw [e0]; exact h)) H locs ls hw hl) (fun h => kf (Int.not_le.mp (fun q => h (by have q9 := ((iI_le hy hx).mpr q); rw [e0] at q9; exact q9))) H locs ls hw hl)
theorem z_icmp_gt (C : Cx E G cc nL own) {off x y : Int} (hd : DB cc pc (.if_icmp .gt off) off pc' tgt) (hx : okI x) (hy : okI y) (kt : y < x → Z E G nL kc ks Q σ tgt lv st) (kf : x ≤ y → Z E G nL kc ks Q σ pc' lv st) : Z E G nL kc ks Q σ pc lv (.int (iI y) :: .int (iI x) :: st) := by
  obtain ⟨hd, rfl, ht⟩ := hd
  intro H locs ls hw hl
  exact lv_icmp_gt C.1 C.2.1 hd ht (fun h => kt ((iI_lt hy hx).mp h) H locs ls hw hl) (fun h => kf (Int.not_lt.mp (fun q => h ((iI_lt hy hx).mpr q))) H locs ls hw hl)
theorem z_if_gt (C : Cx E G cc nL own) {off x : Int} (hd : DB cc pc (.ifCond .gt off) off pc' tgt) (hx : okI x) (kt : 0 < x → Z E G nL kc ks Q σ tgt lv st) (kf : x ≤ 0 → Z E G nL kc ks Q σ pc' lv st) : Z E G nL kc ks Q σ pc lv (.int (iI x) :: st) := by
  obtain ⟨hd, rfl, ht⟩ := hd
  intro H locs ls hw hl
  have hy : okI 0 := ⟨by decide, by decide⟩
  have e0 : iI 0 = 0 := by decide
  exact lv_if_gt C.1 C.2.1 hd ht (fun h => kt ((iI_lt hy hx).mp (by rw [e0]; exact h)) H locs ls hw hl) (fun h => kf (Int.not_lt.mp (fun q => h (by have q9 := ((iI_lt hy hx).mpr q); rw [e0] at q9; exact q9))) H locs ls hw hl)
theorem z_icmp_le (C : Cx E G cc nL own) {off x y : Int} (hd : DB cc pc (.if_icmp .le off) off pc' tgt) (hx : okI x) (hy : okI y) (kt : x ≤ y → Z E G nL kc ks Q σ tgt lv st) (kf : y < x → Z E G nL kc ks Q σ pc' lv st) : Z E G nL kc ks Q σ pc lv (.int (iI y) :: .int (iI x) :: st) := by
  obtain ⟨hd, rfl, ht⟩ := hd
  intro H locs ls hw hl
  exact lv_icmp_le C.1 C.2.1 hd ht (fun h => kt ((iI_le hx hy).mp h) H locs ls hw hl) (fun h => kf (Int.not_le.mp (fun q => h ((iI_le hx hy).mpr q))) H locs ls hw hl)
theorem z_if_le (C : Cx E G cc nL own) {off x : Int} (hd : DB cc pc (.ifCond .le off) off pc' tgt) (hx : okI x) (kt : x ≤ 0 → Z E G nL kc ks Q σ tgt lv st) (kf : 0 < x → Z E G nL kc ks Q σ pc' lv st) : Z E G nL kc ks Q σ pc lv (.int (iI x) :: st) := by
  obtain ⟨hd, rfl, ht⟩ := hd
  intro H locs ls hw hl
  have hy : okI 0 := ⟨by decide, by decide⟩
  have e0 : iI 0 = 0 := by decide
  exact lv_if_le C.1 C.2.1 hd ht (fun h => kt ((iI_le hx hy).mp (by rw [e0]; exact h)) H locs ls hw hl) (fun h => kf (Int.not_le.mp (fun q => h (by have q9 := ((iI_le hx hy).mpr q); rw [e0] at q9; exact q9))) H locs ls hw hl)
theorem lg_cmp_of {x y : Int} (hx : okL x) (hy : okL y) : lg_cmp (lL x) (lL y) = iI (if y < x then 1 else if x = y then 0 else -1) := by
  unfold lg_cmp
  by_cases h1 : y < x
  · rw [if_pos ((lL_lt hy hx).mpr h1), if_pos h1]; decide
  · rw [if_neg (fun q => h1 ((lL_lt hy hx).mp q)), if_neg h1]
    by_cases h2 : x = y
    · rw [if_pos ((lL_eq hx hy).mpr h2), if_pos h2]; decide
    · rw [if_neg (fun q => h2 ((lL_eq hx hy).mp q)), if_neg h2]; decide
theorem z_lcmp_eq (C : Cx E G cc nL own) {off x y : Int} {pc1 : Nat} (hd1 : DD cc pc .lcmp 1 pc1) (hd : DB cc pc1 (.ifCond .eq off) off pc' tgt) (hx : okL x) (hy : okL y) (kt : x = y → Z E G nL kc ks Q σ tgt lv st) (kf : x ≠ y → Z E G nL kc ks Q σ pc' lv st) : Z E G nL kc ks Q σ pc lv (.long (lL y) :: .long (lL x) :: st) := by
  obtain ⟨hd1, rfl⟩ := hd1
  intro H locs ls hw hl
  refine W.lcmp C.1 C.2.1 hd1 ?_
  rw [lg_cmp_of hx hy]
  have hr : okI (if y < x then 1 else if x = y then 0 else -1) := by
    (repeat' split) <;> exact ⟨by decide, by decide⟩
  refine z_if_eq C hd hr (fun h => kt ?_) (fun h => kf ?_) H locs ls hw hl
  · (repeat' split at h) <;> omega
  · (repeat' split at h) <;> omega
theorem z_lcmp_ne (C : Cx E G cc nL own) {off x y : Int} {pc1 : Nat} (hd1 : DD cc pc .lcmp 1 pc1) (hd : DB cc pc1 (.ifCond .ne off) off pc' tgt) (hx : okL x) (hy : okL y) (kt : x ≠ y → Z E G nL kc ks Q σ tgt lv st) (kf : x = y → Z E G nL kc ks Q σ pc' lv st) : Z E G nL kc ks Q σ pc lv (.long (lL y) :: .long (lL x) :: st) := by
  obtain ⟨hd1, rfl⟩ := hd1
  intro H locs ls hw hl
  refine W.lcmp C.1 C.2.1 hd1 ?_
  rw [lg_cmp_of hx hy]
  have hr : okI (if y < x then 1 else if x = y then 0 else -1) := by
    (repeat' split) <;> exact ⟨by decide, by decide⟩
  refine z_if_ne C hd hr (fun h => kt ?_) (fun h => kf ?_) H locs ls hw hl
  · (repeat' split at h) <;> omega
  · (repeat' split at h) <;> omega
theorem z_lcmp_lt (C : Cx E G cc nL own) {off x y : Int} {pc1 : Nat} (hd1 : DD cc pc .lcmp 1 pc1) (hd : DB cc pc1 (.ifCond .lt off) off pc' tgt) (hx : okL x) (hy : okL y) (kt : x < y → Z E G nL kc ks Q σ tgt lv st) (kf : y ≤ x → Z E G nL kc ks Q σ pc' lv st) : Z E G nL kc ks Q σ pc lv (.long (lL y) :: .long (lL x) :: st) := by
  obtain ⟨hd1, rfl⟩ := hd1
  intro H locs ls hw hl
  refine W.lcmp C.1 C.2.1 hd1 ?_
  rw [lg_cmp_of hx hy]
  have hr : okI (if y < x then 1 else if x = y then 0 else -1) := by
    (repeat' split) <;> exact ⟨by decide, by decide⟩
  refine z_if_lt C hd hr (fun h => kt ?_) (fun h => kf ?_) H locs ls hw hl
  · (repeat' split at h) <;> omega
  · (repeat' split at h) <;> omega
theorem z_lcmp_ge (C : Cx E G cc nL own) {off x y : Int} {pc1 : Nat} (hd1 : DD cc pc .lcmp 1 pc1) (hd : DB cc pc1 (.ifCond .ge off) off pc' tgt) (hx : okL x) (hy : okL y) (kt : y ≤ x → Z E G nL kc ks Q σ tgt lv st) (kf : x < y → Z E G nL kc ks Q σ pc' lv st) : Z E G nL kc ks Q σ pc lv (.long (lL y) :: .long (lL x) :: st) := by
  obtain ⟨hd1, rfl⟩ := hd1
  intro H locs ls hw hl
  refine W.lcmp C.1 C.2.1 hd1 ?_
  rw [lg_cmp_of hx hy]
  have hr : okI (if y < x then 1 else if x = y then 0 else -1) := by
    (repeat' split) <;> exact ⟨by decide, by decide⟩
  refine z_if_ge C hd hr (fun h => kt ?_) (fun h => kf ?_) H locs ls hw hl
  · (repeat' split at h) <;> omega
  · (repeat' split at h) <;> omega
theorem z_lcmp_gt (C : Cx E G cc nL own) {off x y : Int} {pc1 : Nat} (hd1 : DD cc pc .lcmp 1 pc1) (hd : DB cc pc1 (.ifCond .gt off) off pc' tgt) (hx : okL x) (hy : okL y) (kt : y < x → Z E G nL kc ks Q σ tgt lv st) (kf : x ≤ y → Z E G nL kc ks Q σ pc' lv st) : Z E G nL kc ks Q σ pc lv (.long (lL y) :: .long (lL x) :: st) := by
  obtain ⟨hd1, rfl⟩ := hd1
  intro H locs ls hw hl
  refine W.lcmp C.1 C.2.1 hd1 ?_
  rw [lg_cmp_of hx hy]
  have hr : okI (if y < x then 1 else if x = y then 0 else -1) := by
    (repeat' split) <;> exact ⟨by decide, by decide⟩
  refine z_if_gt C hd hr (fun h => kt ?_) (fun h => kf ?_) H locs ls hw hl
  · (repeat' split at h) <;> omega
  · (repeat' split at h) <;> omega
theorem z_lcmp_le (C : Cx E G cc nL own) {off x y : Int} {pc1 : Nat} (hd1 : DD cc pc .lcmp 1 pc1) (hd : DB cc pc1 (.ifCond .le off) off pc' tgt) (hx : okL x) (hy : okL y) (kt : x ≤ y → Z E G nL kc ks Q σ tgt lv st) (kf : y < x → Z E G nL kc ks Q σ pc' lv st) : Z E G nL kc ks Q σ pc lv (.long (lL y) :: .long (lL x) :: st) := by
  obtain ⟨hd1, rfl⟩ := hd1
  intro H locs ls hw hl
  refine W.lcmp C.1 C.2.1 hd1 ?_
  rw [lg_cmp_of hx hy]
  have hr : okI (if y < x then 1 else if x = y then 0 else -1) := by
    (repeat' split) <;> exact ⟨by decide, by decide⟩
  refine z_if_le C hd hr (fun h => kt ?_) (fun h => kf ?_) H locs ls hw hl
  · (repeat' split at h) <;> omega
  · (repeat' split at h) <;> omega
theorem z_namei {x : Int} (k : ∀ v, v = x → Z E G nL kc ks Q σ pc lv (.int (iI v) :: st)) : Z E G nL kc ks Q σ pc lv (.int (iI x) :: st) := k x rfl
theorem z_namel {x : Int} (k : ∀ v, v = x → Z E G nL kc ks Q σ pc lv (.long (lL v) :: st)) : Z E G nL kc ks Q σ pc lv (.long (lL x) :: st) := k x rfl
theorem z_lcmp_eq0 (C : Cx E G cc nL own) {off x : Int} {pc1 : Nat} (hd1 : DD cc pc .lcmp 1 pc1) (hd : DB cc pc1 (.ifCond .eq off) off pc' tgt) (hx : okE x) (kt : x = 0 → Z E G nL kc ks Q σ tgt lv st) (kf : x ≠ 0 → Z E G nL kc ks Q σ pc' lv st) : Z E G nL kc ks Q σ pc lv (.long (lL 0) :: .long (lL x) :: st) := by
  rw [show lL x = lL (lL x).toInt from (lL_of _).symm]
  have e : (lL x).toInt = 0 ↔ x = 0 := by
    rw [← lL_z hx]
    constructor
    · intro h; rw [← lL_of (lL x), h]
    · intro h; rw [h]; decide
  exact z_lcmp_eq C hd1 hd (lL_ok _) (okL_lit rfl) (fun h => kt (e.mp h)) (fun h => kf (fun q => h (e.mpr q)))
theorem z_lcmp_ne0 (C : Cx E G cc nL own) {off x : Int} {pc1 : Nat} (hd1 : DD cc pc .lcmp 1 pc1) (hd : DB cc pc1 (.ifCond .ne off) off pc' tgt) (hx : okE x) (kt : x ≠ 0 → Z E G nL kc ks Q σ tgt lv st) (kf : x = 0 → Z E G nL kc ks Q σ pc' lv st) : Z E G nL kc ks Q σ pc lv (.long (lL 0) :: .long (lL x) :: st) := by
  rw [show lL x = lL (lL x).toInt from (lL_of _).symm]
  have e : (lL x).toInt = 0 ↔ x = 0 := by
    rw [← lL_z hx]
    constructor
    · intro h; rw [← lL_of (lL x), h]
    · intro h; rw [h]; decide
  exact z_lcmp_ne C hd1 hd (lL_ok _) (okL_lit rfl) (fun h => kt (fun q => h (e.mpr q))) (fun h => kf (e.mp h))
/-- fields -/
theorem z_nget_d (C : Cx E G cc nL own) {i : Nat} {t : Int} (hd : DD cc pc (.getfield i) 3 pc') (hf : Cond.fieldLink own i "LimbDesk$Num" "d" "[I" ∈ zT) (ht : isN t) (k : Z E G nL kc ks Q σ pc' lv (.ref (zA G (21 + t)) :: st)) : Z E G nL kc ks Q σ pc lv (.ref (zA G t) :: st) := by
  obtain ⟨hd, rfl⟩ := hd
  obtain ⟨j, rfl⟩ : ∃ j : Nat, t = j := ⟨t.toNat, by have := ht.1; omega⟩
  have hj : j < 21 := by have := ht.2; omega
  intro H locs ls hw hl
  refine va_get (q0 := j) (ci := 1) (C := R_Num) (T := F_Num) (N := 3) C.1 C.2.1 C.2.2.2.2.1 i_Num C.2.2.2.1 C.2.2.2.2.2.1 hw.1 (fs := [.ref (zA G (21 + (j : Int))), .int (iI (σ j 1)), .int (iI (σ j 2))]) (by rw [wl_at G σ (by omega)]; simp only [zcell, if_pos hj]) rfl 0 (by decide) (C.2.2.2.2.1 _ hf) (fun _ h => h) rfl hd ?_
  exact k H locs ls hw hl
theorem z_nget_n (C : Cx E G cc nL own) {i : Nat} {t : Int} (hd : DD cc pc (.getfield i) 3 pc') (hf : Cond.fieldLink own i "LimbDesk$Num" "n" "I" ∈ zT) (ht : isN t) (k : Z E G nL kc ks Q σ pc' lv (.int (iI (σ t 1)) :: st)) : Z E G nL kc ks Q σ pc lv (.ref (zA G t) :: st) := by
  obtain ⟨hd, rfl⟩ := hd
  obtain ⟨j, rfl⟩ : ∃ j : Nat, t = j := ⟨t.toNat, by have := ht.1; omega⟩
  have hj : j < 21 := by have := ht.2; omega
  intro H locs ls hw hl
  refine va_get (q0 := j) (ci := 1) (C := R_Num) (T := F_Num) (N := 3) C.1 C.2.1 C.2.2.2.2.1 i_Num C.2.2.2.1 C.2.2.2.2.2.1 hw.1 (fs := [.ref (zA G (21 + (j : Int))), .int (iI (σ j 1)), .int (iI (σ j 2))]) (by rw [wl_at G σ (by omega)]; simp only [zcell, if_pos hj]) rfl 1 (by decide) (C.2.2.2.2.1 _ hf) (fun _ h => h) rfl hd ?_
  exact k H locs ls hw hl
theorem z_nput_n (C : Cx E G cc nL own) {i : Nat} {t v : Int} (hd : DD cc pc (.putfield i) 3 pc') (hf : Cond.fieldLink own i "LimbDesk$Num" "n" "I" ∈ zT) (ht : isN t) (k : Z E G nL kc ks Q (mS σ t 1 v) pc' lv st) : Z E G nL kc ks Q σ pc lv (.int (iI v) :: .ref (zA G t) :: st) := by
  obtain ⟨hd, rfl⟩ := hd
  obtain ⟨j, rfl⟩ : ∃ j : Nat, t = j := ⟨t.toNat, by have := ht.1; omega⟩
  have hj : j < 21 := by have := ht.2; omega
  intro H locs ls hw hl
  refine va_put (q0 := j) (ci := 1) (C := R_Num) (T := F_Num) (N := 3) (ty := .int) C.1 C.2.1 C.2.2.2.2.1 i_Num t_Num t_Num_ok n_Num C.2.2.2.1 C.2.2.2.2.2.1 hw.1 hw.2.1 hw.2.2 (fs := [.ref (zA G (21 + (j : Int))), .int (iI (σ j 1)), .int (iI (σ j 2))]) (by rw [wl_at G σ (by omega)]; simp only [zcell, if_pos hj]) rfl 1 (by decide) (C.2.2.2.2.1 _ hf) (fun _ h => h) rfl (by decide +kernel) rfl rfl (Nat.le_of_ble_eq_true rfl) hd ?_
  intro H1 locs1 hP hD hS
  have e : zcell G (mS σ j 1 v) j = (zA G j, .inr (1, ([.ref (zA G (21 + (j : Int))), .int (iI (σ j 1)), .int (iI (σ j 2))] : List Value).set 1 (.int (iI v)))) := by
    simp only [zcell, if_pos hj, mS_eq, mS_nek (show (1 : Int) ≠ 2 by decide), mS_nek (show (2 : Int) ≠ 1 by decide), List.set]
  have hs := wl_set (σ := σ) (k := 1) (v := v) (j := j) rfl e
  rw [hs] at hP hD
  exact k H1 locs1 ls ⟨hP, hD, hS⟩ hl
theorem z_nget_sign (C : Cx E G cc nL own) {i : Nat} {t : Int} (hd : DD cc pc (.getfield i) 3 pc') (hf : Cond.fieldLink own i "LimbDesk$Num" "sign" "I" ∈ zT) (ht : isN t) (k : Z E G nL kc ks Q σ pc' lv (.int (iI (σ t 2)) :: st)) : Z E G nL kc ks Q σ pc lv (.ref (zA G t) :: st) := by
  obtain ⟨hd, rfl⟩ := hd
  obtain ⟨j, rfl⟩ : ∃ j : Nat, t = j := ⟨t.toNat, by have := ht.1; omega⟩
  have hj : j < 21 := by have := ht.2; omega
  intro H locs ls hw hl
  refine va_get (q0 := j) (ci := 1) (C := R_Num) (T := F_Num) (N := 3) C.1 C.2.1 C.2.2.2.2.1 i_Num C.2.2.2.1 C.2.2.2.2.2.1 hw.1 (fs := [.ref (zA G (21 + (j : Int))), .int (iI (σ j 1)), .int (iI (σ j 2))]) (by rw [wl_at G σ (by omega)]; simp only [zcell, if_pos hj]) rfl 2 (by decide) (C.2.2.2.2.1 _ hf) (fun _ h => h) rfl hd ?_
  exact k H locs ls hw hl
theorem z_nput_sign (C : Cx E G cc nL own) {i : Nat} {t v : Int} (hd : DD cc pc (.putfield i) 3 pc') (hf : Cond.fieldLink own i "LimbDesk$Num" "sign" "I" ∈ zT) (ht : isN t) (k : Z E G nL kc ks Q (mS σ t 2 v) pc' lv st) : Z E G nL kc ks Q σ pc lv (.int (iI v) :: .ref (zA G t) :: st) := by
  obtain ⟨hd, rfl⟩ := hd
  obtain ⟨j, rfl⟩ : ∃ j : Nat, t = j := ⟨t.toNat, by have := ht.1; omega⟩
  have hj : j < 21 := by have := ht.2; omega
  intro H locs ls hw hl
  refine va_put (q0 := j) (ci := 1) (C := R_Num) (T := F_Num) (N := 3) (ty := .int) C.1 C.2.1 C.2.2.2.2.1 i_Num t_Num t_Num_ok n_Num C.2.2.2.1 C.2.2.2.2.2.1 hw.1 hw.2.1 hw.2.2 (fs := [.ref (zA G (21 + (j : Int))), .int (iI (σ j 1)), .int (iI (σ j 2))]) (by rw [wl_at G σ (by omega)]; simp only [zcell, if_pos hj]) rfl 2 (by decide) (C.2.2.2.2.1 _ hf) (fun _ h => h) rfl (by decide +kernel) rfl rfl (Nat.le_of_ble_eq_true rfl) hd ?_
  intro H1 locs1 hP hD hS
  have e : zcell G (mS σ j 2 v) j = (zA G j, .inr (1, ([.ref (zA G (21 + (j : Int))), .int (iI (σ j 1)), .int (iI (σ j 2))] : List Value).set 2 (.int (iI v)))) := by
    simp only [zcell, if_pos hj, mS_eq, mS_nek (show (1 : Int) ≠ 2 by decide), mS_nek (show (2 : Int) ≠ 1 by decide), List.set]
  have hs := wl_set (σ := σ) (k := 2) (v := v) (j := j) rfl e
  rw [hs] at hP hD
  exact k H1 locs1 ls ⟨hP, hD, hS⟩ hl
theorem z_dget (C : Cx E G cc nL own) (kf : Nat) {i : Nat} {v : Value} (hd : DD cc pc (.getfield i) 3 pc') (hk : kf < 8) (hf : Cond.fieldLink own i "LimbDesk" (F_Desk kf).2.1 (F_Desk kf).2.2.1 ∈ zT) (hs : (F_Desk kf).1 = "LimbDesk") (hv : ([.ref (zA G 43), .ref (zA G 16), .ref (zA G 17), .ref (zA G 18), .ref (zA G 19), .ref (zA G 20), .ref (zA G 44), .int (iI (σ 42 7))] : List Value)[kf]? = some v) (k : Z E G nL kc ks Q σ pc' lv (v :: st)) : Z E G nL kc ks Q σ pc lv (.ref (zA G 42) :: st) := by
  obtain ⟨hd, rfl⟩ := hd
  intro H locs ls hw hl
  refine va_get (q0 := 42) (ci := 0) (C := R_Desk) (T := F_Desk) (N := 8) C.1 C.2.1 C.2.2.2.2.1 i_Desk C.2.2.2.1 C.2.2.2.2.2.1 hw.1 (fs := [.ref (zA G 43), .ref (zA G 16), .ref (zA G 17), .ref (zA G 18), .ref (zA G 19), .ref (zA G 20), .ref (zA G 44), .int (iI (σ 42 7))]) (by rw [wl_at G σ (by omega)]; rfl) rfl kf hk (C.2.2.2.2.1 _ hf) (fun _ h => by rw [← hs]; exact h) hv hd ?_
  exact k H locs ls hw hl
theorem z_dput_letters (C : Cx E G cc nL own) {i : Nat} {v : Int} (hd : DD cc pc (.putfield i) 3 pc') (hf : Cond.fieldLink own i "LimbDesk" "letters" "I" ∈ zT) (k : Z E G nL kc ks Q (mS σ 42 7 v) pc' lv st) : Z E G nL kc ks Q σ pc lv (.int (iI v) :: .ref (zA G 42) :: st) := by
  obtain ⟨hd, rfl⟩ := hd
  intro H locs ls hw hl
  refine va_put (q0 := 42) (ci := 0) (C := R_Desk) (T := F_Desk) (N := 8) (ty := .int) C.1 C.2.1 C.2.2.2.2.1 i_Desk t_Desk t_Desk_ok n_Desk C.2.2.2.1 C.2.2.2.2.2.1 hw.1 hw.2.1 hw.2.2 (fs := [.ref (zA G 43), .ref (zA G 16), .ref (zA G 17), .ref (zA G 18), .ref (zA G 19), .ref (zA G 20), .ref (zA G 44), .int (iI (σ 42 7))]) (by rw [wl_at G σ (by omega)]; rfl) rfl 7 (by decide) (C.2.2.2.2.1 _ hf) (fun _ h => h) rfl (by decide +kernel) rfl rfl (Nat.le_of_ble_eq_true rfl) hd ?_
  intro H1 locs1 hP hD hS
  have e : zcell G (mS σ 42 7 v) 42 = (zA G 42, .inr (0, [.ref (zA G 43), .ref (zA G 16), .ref (zA G 17), .ref (zA G 18), .ref (zA G 19), .ref (zA G 20), .ref (zA G 44), .int (iI v)])) := by
    show (zA G 42, Sum.inr (0, ([.ref (zA G 43), .ref (zA G 16), .ref (zA G 17), .ref (zA G 18), .ref (zA G 19), .ref (zA G 20), .ref (zA G 44), .int (iI (mS σ 42 7 v 42 7))] : List Value))) = _
    rw [mS_eq]
  have hs := wl_set (σ := σ) (k := 7) (v := v) (j := 42) (a := 42) rfl e
  exact k H1 locs1 ls ⟨by rw [← hs]; exact hP, by rw [← hs]; exact hD, hS⟩ hl
theorem z_mget (C : Cx E G cc nL own) (kf : Nat) {i : Nat} {v : Value} (hd : DD cc pc (.getfield i) 3 pc') (hk : kf < 16) (hf : Cond.fieldLink own i "LimbDeskModel" (F_Mod kf).2.1 (F_Mod kf).2.2.1 ∈ zT) (hs : (F_Mod kf).1 = "LimbDeskModel") (hv : ([.int (iI (σ 45 0)), .int (iI (σ 45 1)), .ref (zA G 46), .ref (zA G 47), .ref (zA G 48), .ref (zA G 49), .ref (zA G 50), .ref (zA G 51), .ref (zA G 52), .ref (zA G 53), .ref (zA G 54), .ref (zA G 55), .int (iI (σ 45 12)), .ref (zA G 56), .ref (zA G 57), .ref (zA G 58)] : List Value)[kf]? = some v) (k : Z E G nL kc ks Q σ pc' lv (v :: st)) : Z E G nL kc ks Q σ pc lv (.ref (zA G 45) :: st) := by
  obtain ⟨hd, rfl⟩ := hd
  intro H locs ls hw hl
  refine va_get (q0 := 45) (ci := 2) (C := R_Mod) (T := F_Mod) (N := 16) C.1 C.2.1 C.2.2.2.2.1 i_Mod C.2.2.2.1 C.2.2.2.2.2.1 hw.1 (fs := [.int (iI (σ 45 0)), .int (iI (σ 45 1)), .ref (zA G 46), .ref (zA G 47), .ref (zA G 48), .ref (zA G 49), .ref (zA G 50), .ref (zA G 51), .ref (zA G 52), .ref (zA G 53), .ref (zA G 54), .ref (zA G 55), .int (iI (σ 45 12)), .ref (zA G 56), .ref (zA G 57), .ref (zA G 58)]) (by rw [wl_at G σ (by omega)]; rfl) rfl kf hk (C.2.2.2.2.1 _ hf) (fun _ h => by rw [← hs]; exact h) hv hd ?_
  exact k H locs ls hw hl
theorem z_mput_err (C : Cx E G cc nL own) {i : Nat} {v : Int} (hd : DD cc pc (.putfield i) 3 pc') (hf : Cond.fieldLink own i "LimbDeskModel" "err" "I" ∈ zT) (k : Z E G nL kc ks Q (mS σ 45 0 v) pc' lv st) : Z E G nL kc ks Q σ pc lv (.int (iI v) :: .ref (zA G 45) :: st) := by
  obtain ⟨hd, rfl⟩ := hd
  intro H locs ls hw hl
  refine va_put (q0 := 45) (ci := 2) (C := R_Mod) (T := F_Mod) (N := 16) (ty := .int) C.1 C.2.1 C.2.2.2.2.1 i_Mod t_Mod t_Mod_ok n_Mod C.2.2.2.1 C.2.2.2.2.2.1 hw.1 hw.2.1 hw.2.2 (fs := [.int (iI (σ 45 0)), .int (iI (σ 45 1)), .ref (zA G 46), .ref (zA G 47), .ref (zA G 48), .ref (zA G 49), .ref (zA G 50), .ref (zA G 51), .ref (zA G 52), .ref (zA G 53), .ref (zA G 54), .ref (zA G 55), .int (iI (σ 45 12)), .ref (zA G 56), .ref (zA G 57), .ref (zA G 58)]) (by rw [wl_at G σ (by omega)]; rfl) rfl 0 (by decide) (C.2.2.2.2.1 _ hf) (fun _ h => h) rfl (by decide +kernel) rfl rfl (Nat.le_of_ble_eq_true rfl) hd ?_
  intro H1 locs1 hP hD hS
  have e : zcell G (mS σ 45 0 v) 45 = (zA G 45, .inr (2, [.int (iI v), .int (iI (σ 45 1)), .ref (zA G 46), .ref (zA G 47), .ref (zA G 48), .ref (zA G 49), .ref (zA G 50), .ref (zA G 51), .ref (zA G 52), .ref (zA G 53), .ref (zA G 54), .ref (zA G 55), .int (iI (σ 45 12)), .ref (zA G 56), .ref (zA G 57), .ref (zA G 58)])) := by
    show (zA G 45, Sum.inr (2, ([.int (iI (mS σ 45 0 v 45 0)), .int (iI (mS σ 45 0 v 45 1)), .ref (zA G 46), .ref (zA G 47), .ref (zA G 48), .ref (zA G 49), .ref (zA G 50), .ref (zA G 51), .ref (zA G 52), .ref (zA G 53), .ref (zA G 54), .ref (zA G 55), .int (iI (mS σ 45 0 v 45 12)), .ref (zA G 56), .ref (zA G 57), .ref (zA G 58)] : List Value))) = _
    rw [mS_eq, mS_nek (show (1 : Int) ≠ 0 by decide), mS_nek (show (12 : Int) ≠ 0 by decide)]
  have hs := wl_set (σ := σ) (k := 0) (v := v) (j := 45) (a := 45) rfl e
  exact k H1 locs1 ls ⟨by rw [← hs]; exact hP, by rw [← hs]; exact hD, hS⟩ hl
theorem z_mput_length (C : Cx E G cc nL own) {i : Nat} {v : Int} (hd : DD cc pc (.putfield i) 3 pc') (hf : Cond.fieldLink own i "LimbDeskModel" "length" "I" ∈ zT) (k : Z E G nL kc ks Q (mS σ 45 1 v) pc' lv st) : Z E G nL kc ks Q σ pc lv (.int (iI v) :: .ref (zA G 45) :: st) := by
  obtain ⟨hd, rfl⟩ := hd
  intro H locs ls hw hl
  refine va_put (q0 := 45) (ci := 2) (C := R_Mod) (T := F_Mod) (N := 16) (ty := .int) C.1 C.2.1 C.2.2.2.2.1 i_Mod t_Mod t_Mod_ok n_Mod C.2.2.2.1 C.2.2.2.2.2.1 hw.1 hw.2.1 hw.2.2 (fs := [.int (iI (σ 45 0)), .int (iI (σ 45 1)), .ref (zA G 46), .ref (zA G 47), .ref (zA G 48), .ref (zA G 49), .ref (zA G 50), .ref (zA G 51), .ref (zA G 52), .ref (zA G 53), .ref (zA G 54), .ref (zA G 55), .int (iI (σ 45 12)), .ref (zA G 56), .ref (zA G 57), .ref (zA G 58)]) (by rw [wl_at G σ (by omega)]; rfl) rfl 1 (by decide) (C.2.2.2.2.1 _ hf) (fun _ h => h) rfl (by decide +kernel) rfl rfl (Nat.le_of_ble_eq_true rfl) hd ?_
  intro H1 locs1 hP hD hS
  have e : zcell G (mS σ 45 1 v) 45 = (zA G 45, .inr (2, [.int (iI (σ 45 0)), .int (iI v), .ref (zA G 46), .ref (zA G 47), .ref (zA G 48), .ref (zA G 49), .ref (zA G 50), .ref (zA G 51), .ref (zA G 52), .ref (zA G 53), .ref (zA G 54), .ref (zA G 55), .int (iI (σ 45 12)), .ref (zA G 56), .ref (zA G 57), .ref (zA G 58)])) := by
    show (zA G 45, Sum.inr (2, ([.int (iI (mS σ 45 1 v 45 0)), .int (iI (mS σ 45 1 v 45 1)), .ref (zA G 46), .ref (zA G 47), .ref (zA G 48), .ref (zA G 49), .ref (zA G 50), .ref (zA G 51), .ref (zA G 52), .ref (zA G 53), .ref (zA G 54), .ref (zA G 55), .int (iI (mS σ 45 1 v 45 12)), .ref (zA G 56), .ref (zA G 57), .ref (zA G 58)] : List Value))) = _
    rw [mS_eq, mS_nek (show (0 : Int) ≠ 1 by decide), mS_nek (show (12 : Int) ≠ 1 by decide)]
  have hs := wl_set (σ := σ) (k := 1) (v := v) (j := 45) (a := 45) rfl e
  exact k H1 locs1 ls ⟨by rw [← hs]; exact hP, by rw [← hs]; exact hD, hS⟩ hl
theorem z_mput_quotientSize (C : Cx E G cc nL own) {i : Nat} {v : Int} (hd : DD cc pc (.putfield i) 3 pc') (hf : Cond.fieldLink own i "LimbDeskModel" "quotientSize" "I" ∈ zT) (k : Z E G nL kc ks Q (mS σ 45 12 v) pc' lv st) : Z E G nL kc ks Q σ pc lv (.int (iI v) :: .ref (zA G 45) :: st) := by
  obtain ⟨hd, rfl⟩ := hd
  intro H locs ls hw hl
  refine va_put (q0 := 45) (ci := 2) (C := R_Mod) (T := F_Mod) (N := 16) (ty := .int) C.1 C.2.1 C.2.2.2.2.1 i_Mod t_Mod t_Mod_ok n_Mod C.2.2.2.1 C.2.2.2.2.2.1 hw.1 hw.2.1 hw.2.2 (fs := [.int (iI (σ 45 0)), .int (iI (σ 45 1)), .ref (zA G 46), .ref (zA G 47), .ref (zA G 48), .ref (zA G 49), .ref (zA G 50), .ref (zA G 51), .ref (zA G 52), .ref (zA G 53), .ref (zA G 54), .ref (zA G 55), .int (iI (σ 45 12)), .ref (zA G 56), .ref (zA G 57), .ref (zA G 58)]) (by rw [wl_at G σ (by omega)]; rfl) rfl 12 (by decide) (C.2.2.2.2.1 _ hf) (fun _ h => h) rfl (by decide +kernel) rfl rfl (Nat.le_of_ble_eq_true rfl) hd ?_
  intro H1 locs1 hP hD hS
  have e : zcell G (mS σ 45 12 v) 45 = (zA G 45, .inr (2, [.int (iI (σ 45 0)), .int (iI (σ 45 1)), .ref (zA G 46), .ref (zA G 47), .ref (zA G 48), .ref (zA G 49), .ref (zA G 50), .ref (zA G 51), .ref (zA G 52), .ref (zA G 53), .ref (zA G 54), .ref (zA G 55), .int (iI v), .ref (zA G 56), .ref (zA G 57), .ref (zA G 58)])) := by
    show (zA G 45, Sum.inr (2, ([.int (iI (mS σ 45 12 v 45 0)), .int (iI (mS σ 45 12 v 45 1)), .ref (zA G 46), .ref (zA G 47), .ref (zA G 48), .ref (zA G 49), .ref (zA G 50), .ref (zA G 51), .ref (zA G 52), .ref (zA G 53), .ref (zA G 54), .ref (zA G 55), .int (iI (mS σ 45 12 v 45 12)), .ref (zA G 56), .ref (zA G 57), .ref (zA G 58)] : List Value))) = _
    rw [mS_eq, mS_nek (show (0 : Int) ≠ 12 by decide), mS_nek (show (1 : Int) ≠ 12 by decide)]
  have hs := wl_set (σ := σ) (k := 12) (v := v) (j := 45) (a := 45) rfl e
  exact k H1 locs1 ls ⟨by rw [← hs]; exact hP, by rw [← hs]; exact hD, hS⟩ hl
/-- int arrays -/
theorem zcell_arr (G : ZG) (σ : Mem) {j : Nat} (hj : isA j) : zcell G σ j = (zA G j, .inl (zcI G, (ln j).toNat, .inl (fun k => iI (σ j k)))) := by
  have h1 : ¬ j < 21 := by rcases hj with h | h <;> omega
  have h2 : j < 42 ∨ (45 < j ∧ j < 59) := by rcases hj with h | h <;> omega
  simp only [zcell, if_neg h1, if_pos h2]
theorem isA.nat {a : Int} (h : isA a) : ∃ j : Nat, a = j ∧ j < 60 := ⟨a.toNat, by rcases h with h | h <;> omega, by rcases h with h | h <;> omega⟩
theorem z_iald (C : Cx E G cc nL own) {a i : Int} (hd : DD cc pc .iaload 1 pc') (ha : isA a) (hi : 0 ≤ i ∧ i < ln a) (k : Z E G nL kc ks Q σ pc' lv (.int (iI (σ a i)) :: st)) : Z E G nL kc ks Q σ pc lv (.int (iI i) :: .ref (zA G a) :: st) := by
  obtain ⟨hd, rfl⟩ := hd
  obtain ⟨j, rfl, hj⟩ := ha.nat
  have hp := ln_pos j
  intro H locs ls hw hl
  refine va_iald C.1 C.2.1 C.2.2.2.2.2.1 hw.1 j 0 (by rw [wl_at G σ hj, zcell_arr G σ ha]) rfl (iI_in (N := ln j) (by omega) (by omega) hi) hd ?_
  rw [iI_clamp ⟨by omega, by omega⟩, Int.toNat_of_nonneg hi.1]
  exact k H locs ls hw hl
theorem z_ialdN (C : Cx E G cc nL own) {a i : Int} (N : Int) (hd : DD cc pc .iaload 1 pc') (ha : isA a) (hN : ln a = N) (hi : 0 ≤ i ∧ i < N) (k : Z E G nL kc ks Q σ pc' lv (.int (iI (σ a i)) :: st)) : Z E G nL kc ks Q σ pc lv (.int (iI i) :: .ref (zA G a) :: st) := z_iald C hd ha (by rw [hN]; exact hi) k
theorem upd_mS {σ : Mem} {j : Nat} {i v : Int} (hi : 0 ≤ i) : upd (fun k => iI (σ j k)) i.toNat (iI v) = fun k : Nat => iI (mS σ j i v j k) := by
  funext q
  unfold upd mS
  by_cases h : q = i.toNat
  · rw [if_pos h, if_pos ⟨rfl, by omega⟩]
  · rw [if_neg h, if_neg (fun x => h (by omega))]
theorem z_iast (C : Cx E G cc nL own) {a i v : Int} (hd : DD cc pc .iastore 1 pc') (ha : isA a) (hi : 0 ≤ i ∧ i < ln a) (k : Z E G nL kc ks Q (mS σ a i v) pc' lv st) : Z E G nL kc ks Q σ pc lv (.int (iI v) :: .int (iI i) :: .ref (zA G a) :: st) := by
  obtain ⟨hd, rfl⟩ := hd
  obtain ⟨j, rfl, hj⟩ := ha.nat
  have hp := ln_pos j
  intro H locs ls hw hl
  refine va_iast C.1 C.2.1 C.2.2.2.2.2.1 hw.1 hw.2.1 hw.2.2 j 0 (by rw [wl_at G σ hj, zcell_arr G σ ha]) rfl (iI_in (N := ln j) (by omega) (by omega) hi) hd ?_
  intro H1 locs1 hP hD hS
  rw [iI_clamp ⟨by omega, by omega⟩, upd_mS hi.1] at hP hD
  rw [wl_set (σ := σ) (k := i) (v := v) (j := j) rfl (zcell_arr G (mS σ j i v) ha)] at hP hD
  exact k H1 locs1 ls ⟨hP, hD, hS⟩ hl
theorem z_iastN (C : Cx E G cc nL own) {a i v : Int} (N : Int) (hd : DD cc pc .iastore 1 pc') (ha : isA a) (hN : ln a = N) (hi : 0 ≤ i ∧ i < N) (k : Z E G nL kc ks Q (mS σ a i v) pc' lv st) : Z E G nL kc ks Q σ pc lv (.int (iI v) :: .int (iI i) :: .ref (zA G a) :: st) := z_iast C hd ha (by rw [hN]; exact hi) k
/-- the line -/
theorem z_bald (C : Cx E G cc nL own) {i : Int} (hd : DD cc pc .baload 1 pc') (hi : 0 ≤ i ∧ i < 2100) (k : Z E G nL kc ks Q σ pc' lv (.int (iI (σ 44 i)) :: st)) : Z E G nL kc ks Q σ pc lv (.int (iI i) :: .ref (zA G 44) :: st) := by
  obtain ⟨hd, rfl⟩ := hd
  intro H locs ls hw hl
  refine va_bald C.1 C.2.1 C.2.2.2.2.2.1 hw.1 44 1 (f := fun k : Nat => iI (σ 44 k)) (n := 2100) (by rw [wl_at G σ (by omega)]; rfl) rfl (iI_in (N := 2100) (by decide) (by decide) hi) hd ?_
  rw [iI_clamp ⟨by omega, by omega⟩, Int.toNat_of_nonneg hi.1]
  exact k H locs ls hw hl
theorem z_bast (C : Cx E G cc nL own) {i v : Int} (hd : DD cc pc .bastore 1 pc') (hi : 0 ≤ i ∧ i < 2100) (hv : -128 ≤ v ∧ v ≤ 127) (k : Z E G nL kc ks Q (mS σ 44 i v) pc' lv st) : Z E G nL kc ks Q σ pc lv (.int (iI v) :: .int (iI i) :: .ref (zA G 44) :: st) := by
  obtain ⟨hd, rfl⟩ := hd
  intro H locs ls hw hl
  refine va_bast C.1 C.2.1 C.2.2.2.2.2.1 hw.1 hw.2.1 hw.2.2 44 1 (f := fun k : Nat => iI (σ ((44 : Nat) : Int) k)) (n := 2100) (by rw [wl_at G σ (by omega)]; rfl) rfl (iI_in (N := 2100) (by decide) (by decide) hi) hd ?_
  intro H1 locs1 hP hD hS
  have e1 : vp_nar .byte (iI v) = iI v := by
    rw [vp_nar_byte, iI_b, Int.bmod_eq_of_le (by omega) (by omega)]
  rw [e1, iI_clamp ⟨by omega, by omega⟩, upd_mS hi.1] at hP hD
  have hs := wl_set (G := G) (σ := σ) (k := i) (v := v) (j := 44) (a := 44) rfl (e := (zA G 44, .inl (zcB G, 2100, .inl (fun k : Nat => iI (mS σ ((44 : Nat) : Int) i v ((44 : Nat) : Int) k))))) rfl
  exact k H1 locs1 ls ⟨by rw [← hs]; exact hP, by rw [← hs]; exact hD, hS⟩ hl
/-- the law's answer place -/
theorem z_lald (C : Cx E G cc nL own) (hd : DD cc pc .laload 1 pc') (k : Z E G nL kc ks Q σ pc' lv (.long (lL (σ 59 0)) :: st)) : Z E G nL kc ks Q σ pc lv (.int (iI 0) :: .ref (zA G 59) :: st) := by
  obtain ⟨hd, rfl⟩ := hd
  intro H locs ls hw hl
  refine va_lald C.1 C.2.1 C.2.2.2.2.2.1 hw.1 59 2 (f := fun k : Nat => lL (σ 59 k)) (n := 1) (by rw [wl_at G σ (by omega)]; rfl) rfl (iI_in (N := 1) (by decide) (by decide) ⟨by decide, by decide⟩) hd ?_
  exact k H locs ls hw hl
theorem z_last (C : Cx E G cc nL own) {v : Int} (hd : DD cc pc .lastore 1 pc') (k : Z E G nL kc ks Q (mS σ 59 0 v) pc' lv st) : Z E G nL kc ks Q σ pc lv (.long (lL v) :: .int (iI 0) :: .ref (zA G 59) :: st) := by
  obtain ⟨hd, rfl⟩ := hd
  intro H locs ls hw hl
  refine va_last C.1 C.2.1 C.2.2.2.2.2.1 hw.1 hw.2.1 hw.2.2 59 2 (f := fun k : Nat => lL (σ ((59 : Nat) : Int) k)) (n := 1) (by rw [wl_at G σ (by omega)]; rfl) rfl (iI_in (N := 1) (by decide) (by decide) ⟨by decide, by decide⟩) hd ?_
  intro H1 locs1 hP hD hS
  have e1 : vp_updL (fun k : Nat => lL (σ ((59 : Nat) : Int) k)) ((iI 0).toNatClampNeg) (lL v) = fun k : Nat => lL (mS σ ((59 : Nat) : Int) 0 v ((59 : Nat) : Int) k) := by
    rw [iI_clamp ⟨by decide, by decide⟩]
    funext q
    unfold vp_updL mS
    by_cases h : q = (0 : Int).toNat
    · rw [if_pos h, if_pos ⟨rfl, by omega⟩]
    · rw [if_neg h, if_neg (fun x => h (by omega))]
  rw [e1] at hP hD
  have hs := wl_set (G := G) (σ := σ) (k := 0) (v := v) (j := 59) (a := 59) rfl (e := (zA G 59, .inl (zcL G, 1, .inr (.inl (fun k : Nat => lL (mS σ ((59 : Nat) : Int) 0 v ((59 : Nat) : Int) k)))))) rfl
  exact k H1 locs1 ls ⟨by rw [← hs]; exact hP, by rw [← hs]; exact hD, hS⟩ hl
/-- registers -/
theorem z_aald (C : Cx E G cc nL own) {i : Int} (hd : DD cc pc .aaload 1 pc') (hi : 0 ≤ i ∧ i < 16) (k : Z E G nL kc ks Q σ pc' lv (.ref (zA G i) :: st)) : Z E G nL kc ks Q σ pc lv (.int (iI i) :: .ref (zA G 43) :: st) := by
  obtain ⟨hd, rfl⟩ := hd
  intro H locs ls hw hl
  refine va_aldq C.1 C.2.1 C.2.2.2.2.2.1 hw.1 43 3 (f := fun k : Nat => some (zA G k)) (n := 16) (by rw [wl_at G σ (by omega)]; rfl) rfl (iI_in (N := 16) (by decide) (by decide) hi) hd ?_
  rw [iI_clamp ⟨by omega, by omega⟩, Int.toNat_of_nonneg hi.1]
  exact k H locs ls hw hl
end ZR
