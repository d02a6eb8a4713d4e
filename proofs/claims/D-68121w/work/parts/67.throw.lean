/-! Throwing: a walk taken anew from where it stands; 'throw new X()'. -/
theorem same_all {s s' : State} {k n : Nat} (h : s.sameButNew s' [] k n) : ∀ (a : Nat) (c : Cell), s.heap[a]? = some c → s'.heap[a]? = some c := by
  intro a c hc
  obtain ⟨c', h1, h2, h3, h4⟩ := h.2.2.2.2.2 a c hc
  have : c'.slots = c.slots := by
    apply Array.ext_getElem?
    intro i
    exact h4 i List.not_mem_nil
  rw [h1, h2, this]
section ZRoot
variable {p : Program} {l : Launch} {e : Env} {R : Room} {s : State} {m : MethodId} {args : Array Value} {below : List Frame} {meth : Method} {c : Code} {T : State} {locs : List Loc} {kc ks : Nat}
theorem zroot (S : Stand p l e R s m args below meth c T locs kc ks) {R' : Room} (h1 : R'.frames ≤ R.frames) (h2 : R'.locals ≤ R.locals) (h3 : kc + R'.cells ≤ R.cells) (h4 : ks + R'.slots ≤ R.slots) :
    Stand p l e R' (T.setFrames (.invoking m args :: below)) m args below meth c T [] 0 0 := by
  obtain ⟨g₀, hfr⟩ := S.frames_eq
  obtain ⟨th, hth, hth2⟩ := State.frames_cons hfr
  have hcur : T.cur < T.threads.size := (Array.getElem?_eq_some_iff.mp hth).1
  have hf : (T.setFrames (.invoking m args :: below)).frames = .invoking m args :: below := State.frames_setFrames _ hcur
  have hm : (T.setFrames (.invoking m args :: below)).vm.method? m = some meth := S.method'
  have hroom : (T.setFrames (.invoking m args :: below)).hasRoom e.platform R' = true := by
    have hr := S.room
    have q1 := S.heapSize
    have q2 := S.used
    have q3 := S.book
    simp only [State.hasRoom, Bool.and_eq_true, decide_eq_true_eq] at hr ⊢
    rw [State.localsInUse_invoking S.frames S.method S.code, S.frames] at hr
    rw [State.localsInUse_invoking hf hm S.code, hf, State.stackLimits_setFrames, State.stackBytes_setFrames, S.limits, S.bytes]
    obtain ⟨⟨⟨⟨a1, a2, a3, a4, a5, a6⟩, a7⟩, a8⟩, a9⟩ := hr
    refine ⟨⟨⟨⟨by omega, by omega, by omega, by omega, by omega, a6⟩, ?_⟩, ?_⟩, q3⟩
    · show T.heap.size + R'.cells ≤ _
      omega
    · show T.slotsUsed + R'.slots ≤ _
      omega
  have hhears : (T.setFrames (.invoking m args :: below)).hears m below = true := by
    have hh := S.hears
    have hal := S.warmed.alike
    have hc : ∀ q, (T.setFrames (.invoking m args :: below)).code? q = s.code? q := by
      intro q
      rw [State.code?_eq, State.code?_eq]
      show (T.vm.method? q).bind _ = _
      rw [hal.method?]
    have hm2 : ∀ q, (T.setFrames (.invoking m args :: below)).vm.method? q = s.vm.method? q := fun q => hal.method? q
    unfold State.hears at hh ⊢
    simp only [hc, hm2]
    exact hh
  have hth' : (T.setFrames (.invoking m args :: below)).cur < (T.setFrames (.invoking m args :: below)).threads.size := State.cur_lt_of_frames hf
  refine ⟨S.admits, S.cas, S.clock, hf, hroom, hhears, hm, S.code, S.here, S.tail, State.WarmedH.refl _, (State.stackLimits_setFrames ..).symm, (State.stackBytes_setFrames ..).symm, ?_⟩
  obtain ⟨t, ht, -⟩ := State.frames_cons hf
  have h := (State.sameButNew.refl (T.setFrames (.invoking m args :: below)) ht).setFrames T.frames hth'
  rw [State.setFrames_setFrames, State.setFrames_self hth] at h
  exact h
end ZRoot
/-- a static of Throwable, as the library's law asks for it -/
theorem zstat {G : ZG} {U : State} {q : String × String} {args : Array Value} (h : ∃ v : Value, v.isRef = true ∧ va_Z "java/lang/Throwable" q.1 q.2 v (zAA G) U (zH G)) (hh : ∀ a : Nat, a < (zH G).size → U.heap[a]? = (zH G)[a]?) : (Cond.isRef (.static "java/lang/Throwable" q.1 q.2)).before args U = true := by
  obtain ⟨v, hv, cf, kf, fi, f, a, cell, h1, h2, h3, h4, h5, h6, h7, h8⟩ := h
  have hU : U.heap[a]? = some cell := by rw [hh a (by show a < _; exact Nat.lt_of_not_le h8)]; exact h5
  have e1 : (Term.static "java/lang/Throwable" q.1 q.2).eval args U none [] U = some v := by
    simp [Term.eval, State.fieldNamed?, h1, h2, h4, hU, h6, h7]
  cases v <;> simp_all [Cond.before, Cond.holds, Cond.value, Value.isRef]
theorem zlays {G : ZG} {U : State} {C n d : String} {args : Array Value} (h : (Cond.laysStatic C n d).before #[] ({ U with heap := zH G } : State) = true) (hh : ∀ a : Nat, a < (zH G).size → U.heap[a]? = (zH G)[a]?) : (Cond.laysStatic C n d).before args U = true := by
  obtain ⟨c, k, i, f, a, cell, h1, h2, h3, h4, h5, h6, h7, h8, h9⟩ := Cond.laysStatic_spec h
  have h1' : U.vm.findClass C = some c := h1
  have h2' : U.fieldFound? C n d = some (c, k, i, f) := h2
  have h5' : (zH G)[a]? = some cell := h5
  have hU : U.heap[a]? = some cell := by rw [hh a (Array.getElem?_eq_some_iff.mp h5').1]; exact h5'
  simp [Cond.before, Cond.holds, Cond.value, h1', h2', h3, h4, hU, h6, h7, h8, h9]
def xNames : List String := ["java/lang/RuntimeException", "java/lang/Exception"]
/-- the library's words for 'throw new X()': each among zT, or one of the four that KX gives -/
def zOwn (w : Cond) : Bool := zT.contains w
def zLeft : List Cond := [.laysStatic "java/lang/Throwable" "UNASSIGNED_STACK" "[Ljava/lang/StackTraceElement;", .laysStatic "java/lang/Throwable" "SUPPRESSED_SENTINEL" "Ljava/util/List;", .isRef (.static "java/lang/Throwable" "UNASSIGNED_STACK" "[Ljava/lang/StackTraceElement;"), .isRef (.static "java/lang/Throwable" "SUPPRESSED_SENTINEL" "Ljava/util/List;")]
theorem zown_3 : ((Bundle.ownAtoms0 "LimbDesk" 79 "java/lang/IndexOutOfBoundsException" xNames).all (fun w => decide (w ∈ zT) || decide (w ∈ zLeft))) = true := by decide +kernel
theorem zown_1 : ((Bundle.ownAtoms0 "LimbDesk" 40 "java/lang/IllegalArgumentException" xNames).all (fun w => decide (w ∈ zT) || decide (w ∈ zLeft))) = true := by decide +kernel
theorem zown_2 : ((Bundle.ownAtoms0 "LimbDesk" 43 "java/lang/ArithmeticException" xNames).all (fun w => decide (w ∈ zT) || decide (w ∈ zLeft))) = true := by decide +kernel
section ZThrow
variable {E : ZE} {G : ZG} {cc : ByteArray} {nL kc ks : Nat} {own : String} {σ : Mem} {pc pc1 pc2 : Nat} {lv : List (Nat × Value)} {st : List Value} {K X : Int → Mem → Prop} {rc rs mc ms tag : Nat}
theorem z_throw (C : Cx E G cc nL own) (hX : (zc E).exceptionTable.isEmpty = true) (htl : (zl E).stackTraces = false) (kx : Int) {ix ic : Nat}
    (hkx : kx = 1 ∨ kx = 2 ∨ kx = 3) (hfit : Bundle.fit (xName kx) = true)
    (hd1 : DD cc pc (.new ix) 3 pc1) (hd2 : DD cc pc1 .dup 1 pc2) (hd3 : decode cc pc2 = .ok (.invokespecial ic, 3)) (hd4 : decode cc (pc2 + 3) = .ok (.athrow, 1))
    (hcl : Cond.classLink own ix (xName kx) ∈ zT) (hins : Cond.instantiable (xName kx) 6 ∈ zT) (hini : Cond.initialized (xName kx) ∈ zT)
    (hat : ((Bundle.ownAtoms0 own ic (xName kx) xNames).all (fun w => decide (w ∈ zT) || decide (w ∈ zLeft))) = true)
    (hroom : 6 ≤ (zR E).frames ∧ 100 ≤ (zR E).locals ∧ kc + 1 ≤ (zR E).cells ∧ ks + 6 ≤ (zR E).slots) (hsum : (st.map fun v => v.category).sum ≤ 8)
    (hc : kc + 1 ≤ mc ∧ ks + 6 ≤ ms) (hk : X kx σ) :
    Z E G nL kc ks (MQX G (zb E) tag K X (zs E) rc rs mc ms) σ pc lv st := by
  intro H locs ls hw hl T hT S
  have htr : (ze E).platform.stackTraces = false := by rw [S.admits.platform]; exact htl
  obtain ⟨hx, hb, hml, hown, hts, hK, hlk, hKX⟩ := C
  obtain ⟨hd1, rfl⟩ := hd1
  obtain ⟨hd2, rfl⟩ := hd2
  -- anew from here
  have S0 := zroot S (R' := { frames := (zR E).frames, cells := 1, slots := 6, locals := (zR E).locals }) (Nat.le_refl _) (Nat.le_refl _) hroom.2.2.1 hroom.2.2.2
  obtain ⟨s0, hs0⟩ : ∃ s0, s0 = T.setFrames (.invoking (zm E) (za E) :: zb E) := ⟨_, rfl⟩
  rw [← hs0] at S0
  have hW0 : (zs E).WarmedH s0.vm := by rw [hs0]; exact S.warmed
  have hh0 : s0.heap = H := by rw [hs0]; exact hT
  have hts0 := zT_at (a' := za E) hW0 hts
  have hown0 : s0.vm.findClass own = some (zm E).cls := by rw [hW0.alike.findClass]; exact hown
  have hKX0 := hKX.moved hW0
  have hbase : ∀ a : Nat, a < (zH G).size → s0.heap[a]? = (zH G)[a]? := fun a ha => by
    rw [hh0]; exact hw.2.2.2.1 a ha (fun q => absurd ha (Nat.not_lt.mpr q))
  have hatoms : ∀ w ∈ Bundle.ownAtoms0 own ic (xName kx) xNames, w.before (za E) s0 = true := by
    intro w hwm
    have h1 := List.all_eq_true.mp hat w hwm
    rcases Bool.or_eq_true_iff.mp h1 with h1 | h1
    · exact hts0 w (of_decide_eq_true h1)
    · have h2 := of_decide_eq_true h1
      simp only [zLeft, List.mem_cons, List.not_mem_nil, or_false] at h2
      obtain ⟨l1, r1⟩ := hKX0.2.2 ("UNASSIGNED_STACK", "[Ljava/lang/StackTraceElement;") (by simp [zXS])
      obtain ⟨l2, r2⟩ := hKX0.2.2 ("SUPPRESSED_SENTINEL", "Ljava/util/List;") (by simp [zXS])
      rcases h2 with rfl | rfl | rfl | rfl
      · exact zlays l1 hbase
      · exact zlays l2 hbase
      · exact zstat r1 hbase
      · exact zstat r2 hbase
  -- the walk from s0
  have key : W (zp E) (zl E) (ze E) { frames := (zR E).frames, cells := 1, slots := 6, locals := (zR E).locals } s0 (zm E) (za E) (zb E) (zt E) (zc E) s0.heap [] 0 0
      (fun U => ∃ a ce, U.status = .running ∧ Ended U (zb E) (.threw a) ∧ s0.WarmedH U.vm ∧ s0.sameButNew ({ U with vm := s0.vm } : State) [] 1 6 ∧ U.heap[a]? = some ce ∧ Bundle.OwnCell (za E) s0 (xName kx) a .null ce) (F0 (zm E) pc ls st) := by
    refine W.newc hx hb hown0 (hts0 _ hcl) (hts0 _ hins) (hts0 _ hini) rfl hd1 (Nat.le_of_ble_eq_true rfl) (Nat.le_of_ble_eq_true rfl) (fun cC kC h1 h2 h3 h4 => ?_)
    refine lv_dup (pc := pc + 3) hx hb hd2 rfl ?_
    intro T2 hT2 S2
    obtain ⟨U, u1, u2, u3, u4, u5, ce, u6, u7⟩ := S2.ctorThrow0 hx htr hown0 hfit (by decide) hatoms (fun x hx => absurd hx List.not_mem_nil) h1 h2 (a := s0.heap.size) (by rw [hT2]; simp [freshCell]) (Nat.le_refl _)
      (g := F0 (zm E) (pc + 3 + 1) ls (.ref s0.heap.size :: .ref s0.heap.size :: st)) rfl (by rw [hml]; exact hl.1) rfl rfl (rest := st) rfl (by rw [hb]; exact hd3) (by rw [hb]; exact hd4)
      (fun q hq => by
        have : (zc E).exceptionTable = #[] := by simpa using hX
        rw [this] at hq
        exact absurd hq List.not_mem_nil) (by show 2 + 3 < (zR E).frames; omega) (by
        have e1 : ((Value.ref s0.heap.size :: st).map fun v => v.category).sum = 1 + (st.map fun v => v.category).sum := rfl
        show 2 * 0 + ((Value.ref s0.heap.size :: st).map fun v => v.category).sum + (13 * (2 + 1) + 41) ≤ (zR E).locals
        rw [e1]
        have := hroom.2.1
        omega) hlk
    exact ⟨U, u1, s0.heap.size, ce, u2, u3, u4, u5, u6, u7⟩
  obtain ⟨U, u1, a, ce, u2, u3, u4, u5, u6, u7⟩ := key T (by rw [hh0]; exact hT) S0
  have hkeep : ∀ (q : Nat) (cell : Cell), H[q]? = some cell → U.heap[q]? = some cell := fun q cell hq => same_all u5 q cell (by rw [hh0]; exact hq)
  have hsz : H.size ≤ U.heap.size := by have := u5.2.1; rw [hh0] at this; exact this
  have hWU : (zs E).WarmedH U.vm := hW0.trans u4
  refine ⟨U, u1, _, u2, u3, Or.inr ⟨kx, σ, a, rfl, ⟨hkx, ce, u6, by rw [u7.vm]; rfl, ?_⟩, ⟨?_, hw.2.1, ?_, ?_, fun _ q => absurd q List.not_mem_nil⟩, hk⟩, locs, hWU, ?_, hw.2.2.2.2⟩
  · rw [u4.alike.findClass]; exact u7.cls
  · refine hw.1.kept (fun k q hq => ?_)
    obtain ⟨cell, hcell⟩ : ∃ cell, H[q.1]? = some cell := ⟨_, Array.getElem?_eq_getElem (hw.1 k q hq).lt⟩
    rw [hkeep _ _ hcell, hcell]
  · exact Nat.le_trans hw.2.2.1 hsz
  · intro q hq hnq
    have h1 := hw.2.2.2.1 q hq hnq
    obtain ⟨cell, hcell⟩ : ∃ cell, H[q]? = some cell := ⟨_, Array.getElem?_eq_getElem (Nat.lt_of_lt_of_le hq hw.2.2.1)⟩
    rw [hkeep _ _ hcell, ← hcell]; exact h1
  · have h1 : T.sameButNew ({ U with vm := T.vm } : State) [] 1 6 := by
      rw [hs0] at u5
      obtain ⟨q1, q2, q3, q4, q5, q6⟩ := u5
      refine ⟨?_, q2, q3, q4, q5, q6⟩
      rw [State.setFrames_setFrames] at q1
      exact q1
    have h2 := S.same.trans (h1.setVm (zs E).vm)
    rw [List.append_nil] at h2
    exact h2.mono hc.1 hc.2
end ZThrow
