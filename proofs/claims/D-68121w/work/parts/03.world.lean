/-- the words that every method gets: those of the tables that stay true while the tables warm -/
def zgb (w : Cond) : Bool := (w.onTables && (w.keeps || w.faceAtom)) || (match w with | .arrayClass _ => true | _ => false)
def zT : List Cond := lw_tbl.filter zgb
/-! Classes and their fields; the world: sixty cells at fixed ids; the judgement Z (a walk over that world). -/
def R_Desk : String := "LimbDesk"
def R_Num : String := "LimbDesk$Num"
def R_Mod : String := "LimbDeskModel"
def R_Law : String := "LimbDeskLaw"

def F_Desk : u_T := fun k => match k with
  | 0 => ("LimbDesk", "registers", "[LLimbDesk$Num;", true)
  | 1 => ("LimbDesk", "free", "LLimbDesk$Num;", true)
  | 2 => ("LimbDesk", "rest", "LLimbDesk$Num;", true)
  | 3 => ("LimbDesk", "work", "LLimbDesk$Num;", true)
  | 4 => ("LimbDesk", "more", "LLimbDesk$Num;", true)
  | 5 => ("LimbDesk", "base", "LLimbDesk$Num;", true)
  | 6 => ("LimbDesk", "line", "[B", true)
  | _ => ("LimbDesk", "letters", "I", false)
def t_Desk : Nat → FieldType := fun k => match k with
  | 0 => .array (.object "LimbDesk$Num")
  | 1 => .object "LimbDesk$Num"
  | 2 => .object "LimbDesk$Num"
  | 3 => .object "LimbDesk$Num"
  | 4 => .object "LimbDesk$Num"
  | 5 => .object "LimbDesk$Num"
  | 6 => .array .byte
  | _ => .int
theorem n_Desk : ∀ a, a < 8 → ∀ b, b < 8 → a ≠ b → (F_Desk a).2.1 ≠ (F_Desk b).2.1 := by decide +kernel
theorem t_Desk_ok : ∀ k, k < 8 → parseFieldDescriptor (F_Desk k).2.2.1 = some (t_Desk k) := by decide +kernel
theorem i_Desk : ∀ w ∈ u_ws R_Desk F_Desk 8, w ∈ zT := by
  have h : ∀ w ∈ u_ws R_Desk F_Desk 8, w ∈ tables_1 ∧ zgb w = true := by decide +kernel
  exact fun w hw => List.mem_filter.mpr ⟨List.mem_append_right _ (h w hw).1, (h w hw).2⟩

def F_Num : u_T := fun k => match k with
  | 0 => ("LimbDesk$Num", "d", "[I", true)
  | 1 => ("LimbDesk$Num", "n", "I", false)
  | _ => ("LimbDesk$Num", "sign", "I", false)
def t_Num : Nat → FieldType := fun k => match k with
  | 0 => .array .int
  | 1 => .int
  | _ => .int
theorem n_Num : ∀ a, a < 3 → ∀ b, b < 3 → a ≠ b → (F_Num a).2.1 ≠ (F_Num b).2.1 := by decide +kernel
theorem t_Num_ok : ∀ k, k < 3 → parseFieldDescriptor (F_Num k).2.2.1 = some (t_Num k) := by decide +kernel
theorem i_Num : ∀ w ∈ u_ws R_Num F_Num 3, w ∈ zT := by
  have h : ∀ w ∈ u_ws R_Num F_Num 3, w ∈ tables_1 ∧ zgb w = true := by decide +kernel
  exact fun w hw => List.mem_filter.mpr ⟨List.mem_append_right _ (h w hw).1, (h w hw).2⟩

def F_Mod : u_T := fun k => match k with
  | 0 => ("LimbDeskModel", "err", "I", false)
  | 1 => ("LimbDeskModel", "length", "I", false)
  | 2 => ("LimbDeskModel", "limbs", "[I", true)
  | 3 => ("LimbDeskModel", "count", "[I", true)
  | 4 => ("LimbDeskModel", "sign", "[I", true)
  | 5 => ("LimbDeskModel", "text", "[I", true)
  | 6 => ("LimbDeskModel", "ra", "[I", true)
  | 7 => ("LimbDeskModel", "rb", "[I", true)
  | 8 => ("LimbDeskModel", "rc", "[I", true)
  | 9 => ("LimbDeskModel", "rd", "[I", true)
  | 10 => ("LimbDeskModel", "rm", "[I", true)
  | 11 => ("LimbDeskModel", "rt", "[I", true)
  | 12 => ("LimbDeskModel", "quotientSize", "I", false)
  | 13 => ("LimbDeskModel", "rs", "[I", true)
  | 14 => ("LimbDeskModel", "power", "[I", true)
  | _ => ("LimbDeskModel", "base", "[I", true)
def t_Mod : Nat → FieldType := fun k => match k with
  | 0 => .int
  | 1 => .int
  | 2 => .array .int
  | 3 => .array .int
  | 4 => .array .int
  | 5 => .array .int
  | 6 => .array .int
  | 7 => .array .int
  | 8 => .array .int
  | 9 => .array .int
  | 10 => .array .int
  | 11 => .array .int
  | 12 => .int
  | 13 => .array .int
  | 14 => .array .int
  | _ => .array .int
theorem n_Mod : ∀ a, a < 16 → ∀ b, b < 16 → a ≠ b → (F_Mod a).2.1 ≠ (F_Mod b).2.1 := by decide +kernel
theorem t_Mod_ok : ∀ k, k < 16 → parseFieldDescriptor (F_Mod k).2.2.1 = some (t_Mod k) := by decide +kernel
theorem i_Mod : ∀ w ∈ u_ws R_Mod F_Mod 16, w ∈ zT := by
  have h : ∀ w ∈ u_ws R_Mod F_Mod 16, w ∈ tables_1 ∧ zgb w = true := by decide +kernel
  exact fun w hw => List.mem_filter.mpr ⟨List.mem_append_right _ (h w hw).1, (h w hw).2⟩

abbrev zcl : List vw_C := [(R_Desk, F_Desk, 8), (R_Num, F_Num, 3), (R_Mod, F_Mod, 16)]
/-- the world's constants: classes and slots; addresses by cell id; the heap at the law's start; the classes of int[], byte[], long[], Num[] -/
abbrev ZG : Type := va_G × (Int → Nat) × Heap × ClassId × ClassId × ClassId × ClassId
abbrev zA (G : ZG) : Int → Nat := G.2.1
abbrev zH (G : ZG) : Heap := G.2.2.1
abbrev zcI (G : ZG) : ClassId := G.2.2.2.1
abbrev zcB (G : ZG) : ClassId := G.2.2.2.2.1
abbrev zcL (G : ZG) : ClassId := G.2.2.2.2.2.1
abbrev zcN (G : ZG) : ClassId := G.2.2.2.2.2.2
abbrev ztys (G : ZG) : List (ClassId × FieldType) := [(zcI G, .int), (zcB G, .byte), (zcL G, .long), (zcN G, .object "LimbDesk$Num")]
abbrev zAA (G : ZG) : Nat → Prop := fun q => (zH G).size ≤ q
/-- lengths of the int arrays (and of the line) -/
def ln (a : Int) : Int := if a < 42 then 600 else if a = 44 then 2100 else if a = 46 then 2064 else if a = 47 then 16 else if a = 48 then 16 else if a = 49 then 2100 else if a < 57 then 9000 else 129
def isN (a : Int) : Prop := 0 ≤ a ∧ a < 21
/-- an int array of the world -/
def isA (a : Int) : Prop := (21 ≤ a ∧ a < 42) ∨ (46 ≤ a ∧ a < 59)
theorem isN.A {a : Int} (h : isN a) : isA (21 + a) := Or.inl ⟨by have := h.1; omega, by have := h.2; omega⟩
theorem ln_num {a : Int} (h : isN a) : ln (21 + a) = 600 := by have := h.2; simp only [ln]; rw [if_pos (by omega)]
theorem ln_pos (a : Int) : 0 < ln a ∧ ln a ≤ 9000 := by simp only [ln]; (repeat' split) <;> omega
def zcell (G : ZG) (σ : Mem) (j : Nat) : Nat × va_E :=
  (zA G j, if j < 21 then .inr (1, [.ref (zA G (21 + (j : Int))), .int (iI (σ j 1)), .int (iI (σ j 2))])
    else if j < 42 ∨ (45 < j ∧ j < 59) then .inl (zcI G, (ln j).toNat, .inl (fun k => iI (σ j k)))
    else if j = 42 then .inr (0, [.ref (zA G 43), .ref (zA G 16), .ref (zA G 17), .ref (zA G 18), .ref (zA G 19), .ref (zA G 20), .ref (zA G 44), .int (iI (σ j 7))])
    else if j = 43 then .inl (zcN G, 16, .inr (.inr (.inr (.inr (fun k => some (zA G k))))))
    else if j = 44 then .inl (zcB G, 2100, .inl (fun k => iI (σ j k)))
    else if j = 45 then .inr (2, [.int (iI (σ j 0)), .int (iI (σ j 1)), .ref (zA G 46), .ref (zA G 47), .ref (zA G 48), .ref (zA G 49), .ref (zA G 50), .ref (zA G 51), .ref (zA G 52), .ref (zA G 53), .ref (zA G 54), .ref (zA G 55), .int (iI (σ j 12)), .ref (zA G 56), .ref (zA G 57), .ref (zA G 58)])
    else .inl (zcL G, 1, .inr (.inl (fun k => lL (σ j k)))))
def wl (G : ZG) (σ : Mem) : va_W := (List.range 60).map (zcell G σ)
theorem wl_at (G : ZG) (σ : Mem) {j : Nat} (h : j < 60) : (wl G σ)[j]? = some (zcell G σ j) := by
  simp [wl, List.getElem?_map, List.getElem?_range h]
theorem zcell_other {G : ZG} {σ : Mem} {a k v : Int} {j : Nat} (h : (j : Int) ≠ a) : zcell G (mS σ a k v) j = zcell G σ j := by
  have e : ∀ q, mS σ a k v (j : Int) q = σ j q := fun q => mS_nea h
  simp only [zcell, e]
theorem wl_set {G : ZG} {σ : Mem} {a k v : Int} {j : Nat} (hj : (j : Int) = a) {e : Nat × va_E} (he : zcell G (mS σ a k v) j = e) : (wl G σ).set j e = wl G (mS σ a k v) := by
  apply List.ext_getElem?
  intro i
  by_cases h60 : i < 60
  · rw [wl_at G _ h60]
    by_cases hi : j = i
    · subst hi
      rw [List.getElem?_set_self (by simp [wl]; exact h60), he]
    · rw [List.getElem?_set_ne hi, wl_at G _ h60, zcell_other (by omega)]
  · rw [List.getElem?_eq_none (by simp [wl]; omega), List.getElem?_eq_none (by simp [wl]; omega)]
def WD (G : ZG) (σ : Mem) (H : Heap) (locs : List Loc) : Prop := va_P G.1 zcl (wl G σ) H ∧ va_D (zAA G) (wl G σ) ∧ va_S (zAA G) (zH G) H locs
/-- the machine's constants in one walk: program, launch, environment, room, entry state, method, arguments, frames below, method, code -/
abbrev ZE : Type := Program × Launch × Env × Room × State × MethodId × Array Value × List Frame × Method × Code
abbrev zp (E : ZE) : Program := E.1
abbrev zl (E : ZE) : Launch := E.2.1
abbrev ze (E : ZE) : Env := E.2.2.1
abbrev zR (E : ZE) : Room := E.2.2.2.1
abbrev zs (E : ZE) : State := E.2.2.2.2.1
abbrev zm (E : ZE) : MethodId := E.2.2.2.2.2.1
abbrev za (E : ZE) : Array Value := E.2.2.2.2.2.2.1
abbrev zb (E : ZE) : List Frame := E.2.2.2.2.2.2.2.1
abbrev zt (E : ZE) : Method := E.2.2.2.2.2.2.2.2.1
abbrev zc (E : ZE) : Code := E.2.2.2.2.2.2.2.2.2
abbrev WE (E : ZE) (H : Heap) (locs : List Loc) (kc ks : Nat) (Q : State → Prop) (g : JFrame) : Prop := W (zp E) (zl E) (ze E) (zR E) (zs E) (zm E) (za E) (zb E) (zt E) (zc E) H locs kc ks Q g
def Z (E : ZE) (G : ZG) (nL kc ks : Nat) (Q : State → Prop) (σ : Mem) (pc : Nat) (lv : List (Nat × Value)) (st : List Value) : Prop :=
  ∀ (H : Heap) (locs : List Loc) (ls : Array Slot), WD G σ H locs → lv_has ls nL lv → WE E H locs kc ks Q (F0 (zm E) pc ls st)
/-- what throwing and catching needs beside the words: facts of the tables, and the two statics of Throwable, which lie below the law's start -/
def zXS : List (String × String) := [("UNASSIGNED_STACK", "[Ljava/lang/StackTraceElement;"), ("SUPPRESSED_SENTINEL", "Ljava/util/List;")]
/-- no object of class A can be taken for one of class B -/
def nc (A B : String) (U : State) : Prop := ∃ a b, U.vm.findClass A = some a ∧ U.vm.findClass B = some b ∧ U.vm.assignable a b = false
def KX (G : ZG) (U : State) : Prop := nc "java/lang/IndexOutOfBoundsException" "java/lang/IllegalArgumentException" U ∧ nc "java/lang/ArithmeticException" "java/lang/IllegalArgumentException" U ∧
  ∀ q ∈ zXS, (Cond.laysStatic "java/lang/Throwable" q.1 q.2).before #[] ({ U with heap := zH G } : State) = true ∧ ∃ v : Value, v.isRef = true ∧ va_Z "java/lang/Throwable" q.1 q.2 v (zAA G) U (zH G)
def Cx (E : ZE) (G : ZG) (cc : ByteArray) (nL : Nat) (own : String) : Prop :=
  (zp E).tables.exec = Jvm.exec ∧ (zc E).code = cc ∧ (zc E).maxLocals = nL ∧ (zs E).vm.findClass own = some (zm E).cls ∧ (∀ w ∈ zT, w.before (za E) (zs E) = true) ∧ va_K G.1 zcl (ztys G) (zs E) ∧ (zt E).locks = false ∧ KX G (zs E)
def DD (cc : ByteArray) (pc : Nat) (i : Instr) (n pc' : Nat) : Prop := decode cc pc = .ok (i, n) ∧ pc + n = pc'
def DB (cc : ByteArray) (pc : Nat) (i : Instr) (off : Int) (pc' tgt : Nat) : Prop := decode cc pc = .ok (i, 3) ∧ pc + 3 = pc' ∧ (pc : Int) + off = (tgt : Int)

