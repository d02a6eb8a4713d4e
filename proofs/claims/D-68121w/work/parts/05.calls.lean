/-! Contracts over the world, their ends, and calls (a callee may return or throw). -/
/-- exceptions by kind: 1 IllegalArgumentException, 2 ArithmeticException, 3 IndexOutOfBoundsException -/
def xName (kx : Int) : String := if kx = 1 then "java/lang/IllegalArgumentException" else if kx = 2 then "java/lang/ArithmeticException" else "java/lang/IndexOutOfBoundsException"
def isExc (kx : Int) (x : Nat) (H : Heap) (U : State) : Prop := (kx = 1 ∨ kx = 2 ∨ kx = 3) ∧ ∃ cell : Cell, H[x]? = some cell ∧ cell.vm.isStatics = false ∧ U.vm.findClass (xName kx) = some cell.cls
theorem isExc.moved {kx : Int} {x : Nat} {H : Heap} {u U : State} (hvm : u.vm.Alike U.vm) (h : isExc kx x H u) : isExc kx x H U := by
  obtain ⟨h0, cell, h1, h2, h3⟩ := h
  exact ⟨h0, cell, h1, h2, by rw [hvm.findClass]; exact h3⟩
/-- an answer: 0 none, 1 an int, 2 a long, 3 a Num, 4 a boolean -/
def rv (G : ZG) (tag : Nat) (r : Int) : Option Value := match tag with
  | 0 => none
  | 1 => some (.int (iI r))
  | 2 => some (.long (lL r))
  | 3 => some (.ref (zA G r))
  | _ => some (.int (iI r))
def rok (tag : Nat) (r : Int) : Prop := match tag with
  | 0 => r = 0
  | 1 => okI r
  | 2 => okL r
  | 3 => isN r
  | _ => r = 0 ∨ r = 1
def ZK (G : ZG) (tag : Nat) (K X : Int → Mem → Prop) (o : Outcome) (t : State) : Prop :=
  (∃ (r : Int) (σ : Mem), o = .returned (rv G tag r) ∧ rok tag r ∧ WD G σ t.heap [] ∧ K r σ) ∨
  (∃ (kx : Int) (σ : Mem) (x : Nat), o = .threw x ∧ isExc kx x t.heap t ∧ WD G σ t.heap [] ∧ X kx σ)
/-- cells and slots that may be new: a return, a throw -/
def oC (rc mc : Nat) : Outcome → Nat
  | .returned _ => rc
  | .threw _ => mc
def MQX (G : ZG) (below : List Frame) (tag : Nat) (K X : Int → Mem → Prop) (s : State) (rc rs mc ms : Nat) : State → Prop := fun t =>
  ∃ o, t.status = .running ∧ Ended t below o ∧ ZK G tag K X o t ∧ ∃ L, s.WarmedH t.vm ∧ s.sameButNew ({ t with vm := s.vm } : State) L (oC rc mc o) (oC rs ms o) ∧ ∀ q ∈ L, zAA G q.base
/-- the contract: from every state that holds the world σ the method ends as K and X say -/
def Ct (l : Launch) (G : ZG) (y : MethodName) (cw : Cond) (rm : Room) (rc rs : Nat) (tag : Nat) (av : List Value) (σ : Mem) (K X : Int → Mem → Prop) : Prop :=
  MetFree l y (headSpec (cw :: zT) rm) (fun a U => a = av.toArray ∧ WD G σ U.heap [] ∧ va_K G.1 zcl (ztys G) U ∧ KX G U) (fun _ _ _ _ _ => True)
    (fun _ st o t => ZK G tag K X o t ∧ ∃ L, st.WarmedH t.vm ∧ st.sameButNew ({ t with vm := st.vm } : State) L (oC rc rm.cells o) (oC rs rm.slots o) ∧ ∀ q ∈ L, zAA G q.base)
theorem WD.nil {G : ZG} {σ : Mem} {H : Heap} {locs : List Loc} (h : WD G σ H locs) : WD G σ H [] := ⟨h.1, h.2.1, h.2.2.1, h.2.2.2.1, fun _ q => absurd q List.not_mem_nil⟩
theorem WD.locs {G : ZG} {σ : Mem} {H : Heap} {locs : List Loc} (h : WD G σ H []) (hl : ∀ q ∈ locs, zAA G q.base) : WD G σ H locs := ⟨h.1, h.2.1, h.2.2.1, h.2.2.2.1, hl⟩
/-- entering a body -/
theorem Ct.ofZ {l : Launch} {G : ZG} {y : MethodName} {cc : ByteArray} {nL : Nat} {ret : Option FieldType} {rm : Room} {rc rs tag : Nat} {av : List Value} {σ : Mem} {K X : Int → Mem → Prop} (lv : List (Nat × Value)) (own : String)
    (hy : plainName y.cls = true) (hown : y.cls = own) (hn : (lg_sl av).length ≤ nL) (hlv : lv_args 0 av = lv)
    (body : ∀ E : ZE, zR E = rm → zl E = l → Cx E G cc nL own → (zt E).sig.returnType = ret → (zc E).exceptionTable.isEmpty = true → Z E G nL 0 0 (MQX G (zb E) tag K X (zs E) rc rs rm.cells rm.slots) σ 0 lv []) :
    Ct l G y (.code y cc nL ret) rm rc rs tag av σ K X := by
  subst hown; subst hlv
  refine MetFree.of_bodyS (code := cc) (maxLocals := nL) (ret := ret) hy ?_ ?_
  · intro args s m h hn
    obtain ⟨meth, c, h1, h2, h3, h4, h5, h6, -, -⟩ := Cond.code_spec hn (atoms_spec (ws := Cond.code y cc nL ret :: zT) h _ List.mem_cons_self)
    exact ⟨meth, c, h1, h2, h3, h4, h5, h6⟩
  · intro p e s m args below meth c s₁ B hml hP _
    have hh0 : s₁.heap = s.heap := by rw [B.state]; rfl
    obtain ⟨rfl, hW, hK, hKX⟩ := hP
    have hts := atoms_spec (ws := Cond.code y cc nL ret :: zT) B.pre
    have hnh : c.exceptionTable.isEmpty = true := B.noHandlers (hts _ List.mem_cons_self)
    have hl := lv_entry av (n := nL) hn
    obtain ⟨t, a1, o, b1, b2, b3⟩ := body (p, l, e, rm, s, m, av.toArray, below, meth, c) rfl rfl ⟨B.exec, B.bytes, hml, findClass_of_methodNamed B.named, fun w hw => hts w (List.mem_cons_of_mem _ hw), hK, B.notSynchronized, hKX⟩ B.returns hnh s.heap [] _ hW hl s₁ hh0 (Stand.of_body B)
    rw [← lg_entry_eq] at a1
    exact ⟨t, o, a1, b1, b2, b3⟩
section ZC
variable {E : ZE} {G : ZG} {cc : ByteArray} {nL kc ks : Nat} {own : String} {Q : State → Prop} {σ : Mem} {pc pc' tgt : Nat} {lv : List (Nat × Value)} {st : List Value} {K X : Int → Mem → Prop} {rc rs mc ms tag : Nat}
theorem WE.mono {H : Heap} {locs : List Loc} {Q' : State → Prop} {g : JFrame} (h : ∀ t, Q t → Q' t) (k : WE E H locs kc ks Q g) : WE E H locs kc ks Q' g := by
  intro T hT X
  obtain ⟨t, a, b⟩ := k T hT X
  exact ⟨t, a, h t b⟩
theorem z_widen {k n : Nat} (h1 : kc ≤ k) (h2 : ks ≤ n) (kk : Z E G nL k n Q σ pc lv st) : Z E G nL kc ks Q σ pc lv st :=
  fun H locs ls hw hl => W.widen h1 h2 (kk H locs ls hw hl)
theorem MQX.of {H : Heap} {locs : List Loc} {r : Int} (hw : WD G σ H locs) (hr : rok tag r) (hk : K r σ) : ∀ t, MQ (zb E) (fun _ _ o t => o = .returned (rv G tag r) ∧ t.heap = H) (za E) (zs E) rc rs (zAA G) t → MQX G (zb E) tag K X (zs E) rc rs mc ms t := by
  rintro t ⟨o, h1, h2, ⟨h3, hH⟩, L, ⟨-, h4, h5⟩, h6⟩
  subst h3
  exact ⟨_, h1, h2, Or.inl ⟨r, σ, rfl, hr, by rw [hH]; exact hw.nil, hk⟩, L, h4, h5, h6⟩
theorem z_ireturn (C : Cx E G cc nL own) {v : Int} (hd : decode cc pc = .ok (.ireturn, 1)) (hr : (zt E).sig.returnType = some .int) (hc : kc ≤ rc ∧ ks ≤ rs) (hv : okI v) (hk : K v σ) : Z E G nL kc ks (MQX G (zb E) 1 K X (zs E) rc rs mc ms) σ pc lv [.int (iI v)] := by
  refine z_widen hc.1 hc.2 ?_
  intro H locs ls hw hl
  refine WE.mono (MQX.of hw hv hk) ?_
  exact W.iret C.1 C.2.1 hr (fun t ht _ => ⟨rfl, ht⟩) hw.2.2.2.2 hd C.2.2.2.2.2.2.1
theorem z_zreturn (C : Cx E G cc nL own) {v : Int} (hd : decode cc pc = .ok (.ireturn, 1)) (hr : (zt E).sig.returnType = some .boolean) (hc : kc ≤ rc ∧ ks ≤ rs) (hv : v = 0 ∨ v = 1) (hk : K v σ) : Z E G nL kc ks (MQX G (zb E) 4 K X (zs E) rc rs mc ms) σ pc lv [.int (iI v)] := by
  refine z_widen hc.1 hc.2 ?_
  intro H locs ls hw hl
  refine WE.mono (MQX.of hw hv hk) ?_
  exact W.zret C.1 C.2.1 hr (by rcases hv with rfl | rfl <;> decide) (fun t ht _ => ⟨rfl, ht⟩) hw.2.2.2.2 hd C.2.2.2.2.2.2.1
theorem z_lreturn (C : Cx E G cc nL own) {v : Int} (hd : decode cc pc = .ok (.lreturn, 1)) (hr : (zt E).sig.returnType = some .long) (hc : kc ≤ rc ∧ ks ≤ rs) (hv : okL v) (hk : K v σ) : Z E G nL kc ks (MQX G (zb E) 2 K X (zs E) rc rs mc ms) σ pc lv [.long (lL v)] := by
  refine z_widen hc.1 hc.2 ?_
  intro H locs ls hw hl
  refine WE.mono (MQX.of hw hv hk) ?_
  exact W.lret C.1 C.2.1 hr (fun t ht _ => ⟨rfl, ht⟩) hw.2.2.2.2 hd C.2.2.2.2.2.2.1
theorem z_areturn (C : Cx E G cc nL own) {v : Int} {nm : String} (hd : decode cc pc = .ok (.areturn, 1)) (hr : (zt E).sig.returnType = some (.object nm)) (hc : kc ≤ rc ∧ ks ≤ rs) (hv : isN v) (hk : K v σ) : Z E G nL kc ks (MQX G (zb E) 3 K X (zs E) rc rs mc ms) σ pc lv [.ref (zA G v)] := by
  refine z_widen hc.1 hc.2 ?_
  intro H locs ls hw hl
  refine WE.mono (MQX.of hw hv hk) ?_
  exact W.aret C.1 C.2.1 hr (Or.inl ⟨_, rfl⟩) (Or.inr ⟨_, rfl⟩) (fun t ht _ => ⟨rfl, ht⟩) hw.2.2.2.2 hd C.2.2.2.2.2.2.1
theorem z_return (C : Cx E G cc nL own) (hd : decode cc pc = .ok (.return_, 1)) (hr : (zt E).sig.returnType = none) (hc : kc ≤ rc ∧ ks ≤ rs) (hk : K 0 σ) : Z E G nL kc ks (MQX G (zb E) 0 K X (zs E) rc rs mc ms) σ pc lv [] := by
  refine z_widen hc.1 hc.2 ?_
  intro H locs ls hw hl
  refine WE.mono (MQX.of (r := 0) hw rfl hk) ?_
  exact W.vret C.1 C.2.1 hr (fun t ht _ => ⟨rfl, ht⟩) hw.2.2.2.2 hd C.2.2.2.2.2.2.1
/-- an exception of kind kx is being thrown at pc; what lies on the stack is gone -/
def ZT (E : ZE) (G : ZG) (nL kc ks : Nat) (Q : State → Prop) (kx : Int) (σ : Mem) (pc : Nat) (lv : List (Nat × Value)) : Prop :=
  ∀ (H : Heap) (locs : List Loc) (ls : Array Slot) (x : Nat) (st : List Value), WD G σ H locs → lv_has ls nL lv → isExc kx x H (zs E) → ∀ T : State, T.heap = H → Stand (zp E) (zl E) (ze E) (zR E) (zs E) (zm E) (za E) (zb E) (zt E) (zc E) T locs kc ks → ∃ t, Steps (zp E).tables (ze E) (zb E) ((T.setTop (F0 (zm E) pc ls st)).pushFrame (.throwing x)) t ∧ Q t
/-- no handler: the method throws it -/
theorem zt_leave (C : Cx E G cc nL own) {kx : Int} (hx : (zc E).exceptionTable.isEmpty = true) (hc : kc ≤ mc ∧ ks ≤ ms) (hk : X kx σ) : ZT E G nL kc ks (MQX G (zb E) tag K X (zs E) rc rs mc ms) kx σ pc lv := by
  intro H locs ls x st hw hl he T hT S
  have hout : ∀ q ∈ (zc E).exceptionTable.toList, covers q pc = false := by
    intro q hq
    have : (zc E).exceptionTable = #[] := by simpa using hx
    rw [this] at hq
    exact absurd hq List.not_mem_nil
  obtain ⟨h1, h2, h3, h4, h5⟩ := S.leaveThrown x (g := F0 (zm E) pc ls st) rfl rfl rfl hout C.2.2.2.2.2.2.1
  refine ⟨_, h1, _, h2, h3, Or.inr ⟨kx, σ, x, rfl, ?_, ?_, hk⟩, locs, h4, h5.mono hc.1 hc.2, hw.2.2.2.2⟩
  · show isExc kx x T.heap _
    rw [hT]
    exact isExc.moved h4.alike he
  · show WD G σ T.heap []
    rw [hT]; exact hw.nil
end ZC
theorem nc.moved {A B : String} {u U : State} (hvm : u.vm.Alike U.vm) (h : nc A B u) : nc A B U := by
  obtain ⟨a, b, h1, h2, h3⟩ := h
  exact ⟨a, b, by rw [hvm.findClass]; exact h1, by rw [hvm.findClass]; exact h2, by rw [hvm.assignable]; exact h3⟩
theorem laysStatic_moved {C n d : String} {u U : State} {H : Heap} (hW : u.WarmedH U.vm) (h : (Cond.laysStatic C n d).before #[] ({ u with heap := H } : State) = true) : (Cond.laysStatic C n d).before #[] ({ U with heap := H } : State) = true := by
  have hW' : ({ u with heap := H } : State).WarmedH U.vm := hW
  have h1 : (Cond.laysStatic C n d).before #[] (({ u with heap := H } : State).setVm U.vm) = true := Cond.holds_shifted (State.Shifted.of_warmed hW') _ [] rfl h
  exact h1
theorem KX.moved {G : ZG} {u U : State} (hW : u.WarmedH U.vm) (h : KX G u) : KX G U := by
  obtain ⟨h1, h2, h3⟩ := h
  refine ⟨h1.moved hW.alike, h2.moved hW.alike, fun q hq => ?_⟩
  obtain ⟨h4, v, h5, h6⟩ := h3 q hq
  exact ⟨laysStatic_moved hW h4, v, h5, h6.moved hW.alike⟩
/-- words for a callee -/
theorem zgb_at {args a' : Array Value} {s U : State} (hW : s.WarmedH U.vm) {w : Cond} (hb : zgb w = true) (h : w.before args s = true) : w.before a' U = true := by
  unfold zgb at hb
  rcases Bool.or_eq_true_iff.mp hb with hb | hb
  · rw [Bool.and_eq_true] at hb
    rcases Bool.or_eq_true_iff.mp hb.2 with hk | hk
    · exact word_at hW (Or.inl (by rw [hb.1, hk]; rfl)) h
    · have h1 : w.before args (s.setVm U.vm) = true := Cond.faceAtom_setVm hW.alike w hk h
      rw [Cond.onTables_vm (A' := a') (U' := U) U.vm w hb.1] at h1
      exact h1
  · split at hb
    · exact word_at hW (Or.inr ⟨_, rfl⟩) h
    · cases hb
theorem zT_at {args a' : Array Value} {s U : State} (hW : s.WarmedH U.vm) (h : ∀ w ∈ zT, w.before args s = true) : ∀ w ∈ zT, w.before a' U = true :=
  fun w hw => zgb_at hW (List.mem_filter.mp hw).2 (h w hw)
section ZC2
variable {E : ZE} {G : ZG} {cc : ByteArray} {nL kc ks : Nat} {own : String} {Q : State → Prop} {σ : Mem} {pc pc' tgt : Nat} {lv : List (Nat × Value)} {st : List Value} {K X : Int → Mem → Prop} {rc rs mc ms tag : Nat}
/-- behind the invoking instruction: the callee runs by its contract; it comes back or throws -/
theorem z_run {T : State} {locs : List Loc} {y : MethodName} {cw : Cond} {rm : Room} {av : List Value} {ls : Array Slot} {rest : List Value} {len maxL : Nat} {mk : MethodId} {ig : Instr} (C : Cx E G cc nL own)
    (hM : Ct (zl E) G y cw rm rc rs tag av σ K X) (hcw : cw ∈ zT) (hmx : ∀ (a : Array Value) (U : State) (mk : MethodId), U.methodNamed? y = some mk → cw.before a U = true → ∃ (meth : Method) (c : Code), U.vm.method? mk = some meth ∧ meth.code = some c ∧ c.maxLocals = maxL) (hini : Cond.initialized y.cls ∈ zT)
    (hroom : rm.frames + 1 ≤ (zR E).frames ∧ 8 + (maxL + 11) + rm.locals ≤ (zR E).locals ∧ kc + rm.cells ≤ (zR E).cells ∧ ks + rm.slots ≤ (zR E).slots)
    (S : Stand (zp E) (zl E) (ze E) (zR E) (zs E) (zm E) (za E) (zb E) (zt E) (zc E) T locs kc ks) (hw : WD G σ T.heap locs) (hl : lv_has ls nL lv)
    (hd : decode cc pc = .ok (ig, len)) (hst : (rest.map fun v => v.category).sum ≤ 8) (hn : T.methodNamed? y = some mk)
    (hret : ∀ (r : Int) (σ' : Mem), rok tag r → K r σ' → Z E G nL (kc + rc) (ks + rs) Q σ' (pc + len) lv ((rv G tag r).toList ++ rest))
    (hthr : ∀ (kx : Int) (σ' : Mem), X kx σ' → ZT E G nL (kc + rm.cells) (ks + rm.slots) Q kx σ' pc lv) :
    ∃ t, Steps (zp E).tables (ze E) (zb E) (doInvoke (ze E) (T.setTop (F0 (zm E) pc ls rest)) [] mk av.toArray).1 t ∧ Q t := by
  obtain ⟨hx, hb, hml, hown, hts, hK, hlk, hKX⟩ := C
  have hts' := zT_at (a' := av.toArray) S.warmed hts
  have hpre : (headSpec (cw :: zT) rm).pre.before av.toArray T = true := atoms_intro (fun w hw => by
    rcases List.mem_cons.mp hw with rfl | hw
    · exact hts' _ hcw
    · exact hts' w hw)
  obtain ⟨methY, cY, hmY, hcY, hlY⟩ := hmx av.toArray T mk hn (hts' _ hcw)
  obtain ⟨kY, hkY, -⟩ := className_of_methodNamed hn
  have hinitY : kY.init = .initialized := Cond.initialized_spec (findClass_of_methodNamed hn) hkY (hts' _ hini)
  have hdc : decode (zc E).code (F0 (zm E) pc ls rest).pc = .ok (ig, len) := by rw [hb]; exact hd
  have hsize : (F0 (zm E) pc ls rest).locals.size = (zc E).maxLocals := by rw [hml]; exact hl.1
  have hz : 2 * (F0 (zm E) pc ls rest).monitorRoom + (rest.map fun v => v.category).sum ≤ 8 := lv_room hst
  have happ : (headSpec (cw :: zT) rm).appliesLoose y (ze E).platform (T.calling (F0 (zm E) pc ls rest) mk av.toArray) = true :=
    Spec.appliesLoose_calling (g := F0 (zm E) pc ls rest) S.here hdc hn hkY hinitY
      (S.room_calling (g := F0 (zm E) pc ls rest) (R' := rm) hsize hmY hcY hroom.1 (by rw [hlY]; show 2 * (F0 (zm E) pc ls rest).monitorRoom + (rest.map fun v => v.category).sum + _ + _ ≤ _; omega) hroom.2.2.1 hroom.2.2.2) hpre
  have hfr : (T.setTop (F0 (zm E) pc ls rest)).frames = [.java (F0 (zm E) pc ls rest)] ++ (zb E) := by rw [State.frames_setTop' _ S.here.top, S.tail]; rfl
  obtain ⟨o, s₂, hsteps, hrun, hend, hq, L, hW₂, hsame, hL⟩ := Steps.callFree hM (zp E) S.admits S.cas S.clock (acts := []) hfr happ
    ⟨rfl, hw.nil, va_K.moved (U := T.calling (F0 (zm E) pc ls rest) mk av.toArray) S.warmed.alike hK, KX.moved (U := T.calling (F0 (zm E) pc ls rest) mk av.toArray) S.warmed hKX⟩ trivial
  have hend' : Ended s₂ (.java (F0 (zm E) pc ls rest) :: zb E) o := by
    rw [hfr] at hend; exact hend
  have hLL : ∀ q ∈ locs ++ L, zAA G q.base := fun q hq => by
    rcases List.mem_append.mp hq with h | h
    · exact hw.2.2.2.2 q h
    · exact hL q h
  rcases hq with ⟨r, σ', rfl, hr, hwd, hk⟩ | ⟨kx, σ', x, rfl, hx, hwd, hk⟩
  · obtain ⟨T', S', -, -, e1⟩ := S.outOf (g := F0 (zm E) pc ls rest) rfl hdc hend' hW₂ hsame
    have hh : T'.heap = s₂.heap := by rw [e1]; rfl
    obtain ⟨t, a1, b1⟩ := hret r σ' hr hk T'.heap (locs ++ L) ls (WD.locs (by rw [hh]; exact hwd) hLL) hl T' rfl S'
    rw [e1] at hsteps
    exact ⟨t, hsteps.trans a1, b1⟩
  · obtain ⟨T', S', -, -, e1⟩ := S.outOfThrown (g := F0 (zm E) pc ls rest) rfl hend' hW₂ hsame
    have hh : T'.heap = s₂.heap := by rw [e1]; rfl
    obtain ⟨t, a1, b1⟩ := hthr kx σ' hk T'.heap (locs ++ L) ls x rest (WD.locs (by rw [hh]; exact hwd) hLL) hl (by rw [hh]; exact isExc.moved (S.warmed.trans hW₂).alike.symm hx) T' rfl S'
    rw [e1] at hsteps
    exact ⟨t, hsteps.trans a1, b1⟩
end ZC2
