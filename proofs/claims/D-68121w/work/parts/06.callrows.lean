/-! Calls, as rows. -/
theorem zmx_code {y : MethodName} {bytes : ByteArray} {maxL : Nat} {ret : Option FieldType} : ∀ (a : Array Value) (U : State) (mk : MethodId), U.methodNamed? y = some mk → (Cond.code y bytes maxL ret).before a U = true → ∃ (meth : Method) (c : Code), U.vm.method? mk = some meth ∧ meth.code = some c ∧ c.maxLocals = maxL := by
  intro a U mk hn h
  obtain ⟨meth, c, h1, h2, -, h4, -, -, -, -⟩ := Cond.code_spec hn h
  exact ⟨meth, c, h1, h2, h4⟩
section ZC3
variable {E : ZE} {G : ZG} {cc : ByteArray} {nL kc ks : Nat} {own : String} {Q : State → Prop} {σ : Mem} {pc pc' tgt : Nat} {lv : List (Nat × Value)} {st : List Value} {K X : Int → Mem → Prop} {rc rs tag : Nat}
theorem z_callS (C : Cx E G cc nL own) {y : MethodName} {bytes : ByteArray} {maxL i : Nat} {ret : Option FieldType} {rm : Room} (av rest : List Value) (n : Nat)
    (hd : DD cc pc (.invokestatic i) 3 pc') (hM : Ct (zl E) G y (.code y bytes maxL ret) rm rc rs tag av σ K X)
    (hcw : Cond.code y bytes maxL ret ∈ zT) (hlink : Cond.methodLink own i y ∈ zT) (hstat : Cond.static y ∈ zT) (hini : Cond.initialized y.cls ∈ zT) (hy : y.cls ≠ "java/lang/invoke/MethodHandle" ∧ y.cls ≠ "java/lang/invoke/VarHandle")
    (hlen : (parseMethodDescriptor y.desc).map (fun d => d.parameters.length) = some n) (hn : av.length = n) (hst : st = av.reverse ++ rest) (hsum : (rest.map fun v => v.category).sum ≤ 8)
    (hroom : rm.frames + 1 ≤ (zR E).frames ∧ 8 + (maxL + 11) + rm.locals ≤ (zR E).locals ∧ kc + rm.cells ≤ (zR E).cells ∧ ks + rm.slots ≤ (zR E).slots)
    (hret : ∀ (r : Int) (σ' : Mem), rok tag r → K r σ' → Z E G nL (kc + rc) (ks + rs) Q σ' pc' lv ((rv G tag r).toList ++ rest))
    (hthr : ∀ (kx : Int) (σ' : Mem), X kx σ' → ZT E G nL (kc + rm.cells) (ks + rm.slots) Q kx σ' pc lv) :
    Z E G nL kc ks Q σ pc lv st := by
  obtain ⟨hd, rfl⟩ := hd
  intro H locs ls hw hl T hT S
  have C0 := C
  obtain ⟨hx, hb, hml, hown, hts, hK, hlk, hKX⟩ := C0
  obtain ⟨mk, hnamed⟩ := Cond.code_named (hts _ hcw)
  obtain ⟨methM, cM, hmethM, -, -, -, -, -, -, hsigM⟩ := Cond.code_spec hnamed (hts _ hcw)
  have hstatic : methM.isStatic = true := Cond.static_spec hnamed hmethM (hts _ hstat)
  obtain ⟨kP, hkP, -⟩ := className_of_methodNamed hnamed
  have hinitP : kP.init = .initialized := Cond.initialized_spec (findClass_of_methodNamed hnamed) hkP (hts _ hini)
  have hlen' : av.length = methM.sig.parameters.length := by
    rw [hsigM] at hlen
    exact hn.trans (Option.some.inj hlen).symm
  obtain ⟨vm₁, S₁, hstep₁⟩ := S.invokestatic hx hown (hts _ hlink) hnamed hmethM hstatic hkP hinitP hy (g := F0 (zm E) pc ls st) rfl (argsL := av) (rest := rest) hlen' hst (by rw [hb]; exact hd)
  obtain ⟨t, a1, b1⟩ := z_run C hM hcw zmx_code hini hroom S₁ (by show WD G σ T.heap locs; rw [hT]; exact hw) hl hd hsum (S₁.named hnamed) hret hthr
  exact ⟨t, hstep₁ _ fun acts => by rw [doInvoke_state]; exact a1, b1⟩
theorem z_callV (C : Cx E G cc nL own) {y : MethodName} {bytes : ByteArray} {maxL i : Nat} {ret : Option FieldType} {rm : Room} (Cn : String) {b : Nat} (av rest : List Value) (n : Nat)
    (hd : DD cc pc (.invokevirtual i) 3 pc') (hM : Ct (zl E) G y (.code y bytes maxL ret) rm rc rs tag (.ref b :: av) σ K X)
    (hcw : Cond.code y bytes maxL ret ∈ zT) (hlink : Cond.methodLink own i y ∈ zT) (hinst : Cond.instanceMethod y ∈ zT) (hsel : Cond.selects Cn y y ∈ zT) (hini : Cond.initialized y.cls ∈ zT) (hy : y.cls ≠ "java/lang/invoke/MethodHandle" ∧ y.cls ≠ "java/lang/invoke/VarHandle")
    (hrecv : ∀ (H : Heap) (locs : List Loc), WD G σ H locs → ∃ cell : Cell, H[b]? = some cell ∧ cell.vm.isStatics = false ∧ (zs E).vm.findClass Cn = some cell.cls)
    (hlen : (parseMethodDescriptor y.desc).map (fun d => d.parameters.length) = some n) (hn : av.length = n) (hst : st = av.reverse ++ .ref b :: rest) (hsum : (rest.map fun v => v.category).sum ≤ 8)
    (hroom : rm.frames + 1 ≤ (zR E).frames ∧ 8 + (maxL + 11) + rm.locals ≤ (zR E).locals ∧ kc + rm.cells ≤ (zR E).cells ∧ ks + rm.slots ≤ (zR E).slots)
    (hret : ∀ (r : Int) (σ' : Mem), rok tag r → K r σ' → Z E G nL (kc + rc) (ks + rs) Q σ' pc' lv ((rv G tag r).toList ++ rest))
    (hthr : ∀ (kx : Int) (σ' : Mem), X kx σ' → ZT E G nL (kc + rm.cells) (ks + rm.slots) Q kx σ' pc lv) :
    Z E G nL kc ks Q σ pc lv st := by
  obtain ⟨hd, rfl⟩ := hd
  intro H locs ls hw hl T hT S
  have C0 := C
  obtain ⟨hx, hb, hml, hown, hts, hK, hlk, hKX⟩ := C0
  obtain ⟨cellB, hcB, hoB, hclB⟩ := hrecv H locs hw
  obtain ⟨mk, methM, hnamed, hmethM, hstM, habM⟩ := Cond.instanceMethod_spec (hts _ hinst)
  obtain ⟨methM', cM, hmethM', -, -, -, -, -, -, hsigM⟩ := Cond.code_spec hnamed (hts _ hcw)
  cases hmethM.symm.trans hmethM'
  obtain ⟨c2, r2, m2, q1, q2, q3, q4, kP, hkP, hkPi⟩ := Cond.selects_spec (hts _ hsel)
  cases hclB.symm.trans q1
  cases (State.methodFound?_of_named hnamed hy).symm.trans q2
  cases hnamed.symm.trans q3
  have hselP : selectMethod (ze E).platform (zs E).vm cellB.cls mk = .method mk := by rw [Launch.admits_selectMethod S.admits]; exact q4
  have hlen' : av.length = methM.sig.parameters.length := by
    rw [hsigM] at hlen
    exact hn.trans (Option.some.inj hlen).symm
  obtain ⟨vm₁, S₁, hstep₁⟩ := S.invokevirtual hx hown (hts _ hlink) hnamed hmethM hstM hkP hkPi hy (a := b) (cell := cellB) (by rw [hT]; exact hcB)
    (fun z h => by rw [h] at hoB; cases hoB) hselP hmethM habM hkP hkPi (g := F0 (zm E) pc ls st) rfl (argsL := av) (rest := rest) hlen' hst (by rw [hb]; exact hd)
  obtain ⟨t, a1, b1⟩ := z_run C hM hcw zmx_code hini hroom S₁ (by show WD G σ T.heap locs; rw [hT]; exact hw) hl hd hsum (S₁.named hnamed) hret hthr
  exact ⟨t, hstep₁ _ fun acts => by rw [doInvoke_state]; exact a1, b1⟩
theorem recv_N (C : Cx E G cc nL own) {t : Int} (ht : isN t) : ∀ (H : Heap) (locs : List Loc), WD G σ H locs → ∃ cell : Cell, H[zA G t]? = some cell ∧ cell.vm.isStatics = false ∧ (zs E).vm.findClass "LimbDesk$Num" = some cell.cls := by
  intro H locs hw
  obtain ⟨j, rfl⟩ : ∃ j : Nat, t = j := ⟨t.toNat, by have := ht.1; omega⟩
  have hj : j < 21 := by have := ht.2; omega
  exact va_recv (q := (R_Num, F_Num, 3)) C.2.2.2.2.2.1 hw.1 (ci := 1) rfl (q0 := j) (fs := [.ref (zA G (21 + (j : Int))), .int (iI (σ j 1)), .int (iI (σ j 2))]) (by rw [wl_at G σ (by omega)]; simp only [zcell, if_pos hj])
theorem recv_D (C : Cx E G cc nL own) : ∀ (H : Heap) (locs : List Loc), WD G σ H locs → ∃ cell : Cell, H[zA G 42]? = some cell ∧ cell.vm.isStatics = false ∧ (zs E).vm.findClass "LimbDesk" = some cell.cls := by
  intro H locs hw
  exact va_recv (q := (R_Desk, F_Desk, 8)) C.2.2.2.2.2.1 hw.1 (ci := 0) rfl (q0 := 42) (a := zA G 42) (by rw [wl_at G σ (by omega)]; rfl)
theorem recv_M (C : Cx E G cc nL own) : ∀ (H : Heap) (locs : List Loc), WD G σ H locs → ∃ cell : Cell, H[zA G 45]? = some cell ∧ cell.vm.isStatics = false ∧ (zs E).vm.findClass "LimbDeskModel" = some cell.cls := by
  intro H locs hw
  exact va_recv (q := (R_Mod, F_Mod, 16)) C.2.2.2.2.2.1 hw.1 (ci := 2) rfl (q0 := 45) (a := zA G 45) (by rw [wl_at G σ (by omega)]; rfl)
theorem z_max (C : Cx E G cc nL own) {i : Nat} {x y : Int} (hd : DD cc pc (.invokestatic i) 3 pc') (h1 : Cond.methodLink own i Lib.Math.max.name ∈ zT) (h2 : Cond.static Lib.Math.max.name ∈ zT) (h3 : Cond.initialized "java/lang/Math" ∈ zT) (h4 : Cond.code Lib.Math.max.name Lib.Math.max.code 2 (some .int) ∈ zT) (hx : okI x) (hy : okI y) (hsum : (st.map fun v => v.category).sum ≤ 8) (hroom : 1 ≤ (zR E).frames ∧ 8 + 13 ≤ (zR E).locals ∧ kc ≤ (zR E).cells ∧ ks ≤ (zR E).slots) (k : Z E G nL kc ks Q σ pc' lv (.int (iI (if x < y then y else x)) :: st)) : Z E G nL kc ks Q σ pc lv (.int (iI y) :: .int (iI x) :: st) := by
  obtain ⟨hd, rfl⟩ := hd
  intro H locs ls hw hl
  refine va_mmax C.1 C.2.1 (C.2.2.1.trans hl.1.symm) C.2.2.2.1 (C.2.2.2.2.1 _ h1) (C.2.2.2.2.1 _ h2) (C.2.2.2.2.1 _ h3) (C.2.2.2.2.1 _ h4) hroom.1 (by omega) hroom.2.2.1 hroom.2.2.2 hd ?_
  have e : (if iI x < iI y then iI y else iI x) = iI (if x < y then y else x) := by
      by_cases h : x < y
      · rw [if_pos ((iI_lt hx hy).mpr h), if_pos h]
      · rw [if_neg (fun q => h ((iI_lt hx hy).mp q)), if_neg h]
  rw [e]
  exact k H locs ls hw hl
theorem z_min (C : Cx E G cc nL own) {i : Nat} {x y : Int} (hd : DD cc pc (.invokestatic i) 3 pc') (h1 : Cond.methodLink own i Lib.Math.min.name ∈ zT) (h2 : Cond.static Lib.Math.min.name ∈ zT) (h3 : Cond.initialized "java/lang/Math" ∈ zT) (h4 : Cond.code Lib.Math.min.name Lib.Math.min.code 2 (some .int) ∈ zT) (hx : okI x) (hy : okI y) (hsum : (st.map fun v => v.category).sum ≤ 8) (hroom : 1 ≤ (zR E).frames ∧ 8 + 13 ≤ (zR E).locals ∧ kc ≤ (zR E).cells ∧ ks ≤ (zR E).slots) (k : Z E G nL kc ks Q σ pc' lv (.int (iI (if y < x then y else x)) :: st)) : Z E G nL kc ks Q σ pc lv (.int (iI y) :: .int (iI x) :: st) := by
  obtain ⟨hd, rfl⟩ := hd
  intro H locs ls hw hl
  refine va_mmin C.1 C.2.1 (C.2.2.1.trans hl.1.symm) C.2.2.2.1 (C.2.2.2.2.1 _ h1) (C.2.2.2.2.1 _ h2) (C.2.2.2.2.1 _ h3) (C.2.2.2.2.1 _ h4) hroom.1 (by omega) hroom.2.2.1 hroom.2.2.2 hd ?_
  have e : (if iI y < iI x then iI y else iI x) = iI (if y < x then y else x) := by
      by_cases h : y < x
      · rw [if_pos ((iI_lt hy hx).mpr h), if_pos h]
      · rw [if_neg (fun q => h ((iI_lt hy hx).mp q)), if_neg h]
  rw [e]
  exact k H locs ls hw hl
end ZC3
theorem okE_L {x : Int} (h : okL x) : okE x := ⟨by have := h.1; omega, by have := h.2; omega⟩
theorem okI_b {r : Int} (h : r = 0 ∨ r = 1) : okI r := ⟨by omega, by omega⟩
theorem isN16 {i : Int} (h : 0 ≤ i ∧ i < 16) : isN i := ⟨h.1, by omega⟩
theorem okI_max {x y : Int} (hx : okI x) (hy : okI y) : okI (if x < y then y else x) := by split <;> assumption
theorem okI_min {x y : Int} (hx : okI x) (hy : okI y) : okI (if y < x then y else x) := by split <;> assumption
