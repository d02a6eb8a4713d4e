/-! Pure base: the memory, machine numbers by Ints, loops and joins of predicate transformers. -/
abbrev Mem : Type := Int → Int → Int
/-- a store: cell a, place k -/
def mS (σ : Mem) (a k v : Int) : Mem := fun a' k' => if a' = a ∧ k' = k then v else σ a' k'
theorem mS_eq (σ : Mem) (a k v : Int) : mS σ a k v a k = v := by simp [mS]
theorem mS_ne {σ : Mem} {a k v a' k' : Int} (h : ¬ (a' = a ∧ k' = k)) : mS σ a k v a' k' = σ a' k' := by simp only [mS, if_neg h]
theorem mS_nea {σ : Mem} {a k v a' k' : Int} (h : a' ≠ a) : mS σ a k v a' k' = σ a' k' := mS_ne (fun q => h q.1)
theorem mS_nek {σ : Mem} {a k v a' k' : Int} (h : k' ≠ k) : mS σ a k v a' k' = σ a' k' := mS_ne (fun q => h q.2)
def iI (x : Int) : Int32 := Int32.ofInt x
def lL (x : Int) : Int64 := Int64.ofInt x
def okI (x : Int) : Prop := -2147483648 ≤ x ∧ x ≤ 2147483647
def okL (x : Int) : Prop := -9223372036854775808 ≤ x ∧ x ≤ 9223372036854775807
/-- and, or, exclusive or of ints and longs -/
def anI (x y : Int) : Int := (iI x &&& iI y).toInt
def orI (x y : Int) : Int := (iI x ||| iI y).toInt
def xoI (x y : Int) : Int := (iI x ^^^ iI y).toInt
def orL (x y : Int) : Int := (lL x ||| lL y).toInt

def lo0 (body : Mem → (Mem → Prop) → Prop) : Nat → Mem → Prop
  | 0 => fun _ => False
  | k + 1 => fun σ => body σ (lo0 body k)
def Lo0 (body : Mem → (Mem → Prop) → Prop) (σ : Mem) : Prop := ∃ k, lo0 body k σ
theorem Lo0.walk {body : Mem → (Mem → Prop) → Prop} {P : Mem → Prop} (h : ∀ (σ : Mem) (again : Mem → Prop), (∀ (σ' : Mem), again σ' → P σ') → body σ again → P σ) {σ : Mem} : Lo0 body σ → P σ := by
  rintro ⟨k, hk⟩
  have key : ∀ k (σ : Mem), lo0 body k σ → P σ := by
    intro k
    induction k with
    | zero => intro σ h0; exact h0.elim
    | succ k ih => intro σ h0; exact h σ (lo0 body k) (fun σ' h1 => ih σ' h1) h0
  exact key k σ hk
theorem Lo0.mk {body : Mem → (Mem → Prop) → Prop} (I : Mem → Prop) (μ : Mem → Nat) (hs : ∀ (σ : Mem) (again : Mem → Prop), I σ → (∀ (σ' : Mem), I σ' → μ σ' < μ σ → again σ') → body σ again) {σ : Mem} (h0 : I σ) : Lo0 body σ := by
  have key : ∀ k (σ : Mem), μ σ < k → I σ → lo0 body k σ := by
    intro k
    induction k with
    | zero => intro σ h1; exact absurd h1 (Nat.not_lt_zero _)
    | succ k ih => intro σ h1 h2; exact hs σ (lo0 body k) h2 (fun σ' h3 h4 => ih σ' (by omega) h3)
  exact ⟨_, key _ σ (Nat.lt_succ_self _) h0⟩
def Jo0 (rest : Mem → Prop) (body : (Mem → Prop) → Prop) : Prop := body rest
theorem Jo0.walk {rest : Mem → Prop} {body : (Mem → Prop) → Prop} {Goal : Prop} (P : Mem → Prop) (h : Jo0 rest body) (h1 : ∀ (σ : Mem), rest σ → P σ) (h2 : ∀ J : Mem → Prop, (∀ (σ : Mem), J σ → P σ) → body J → Goal) : Goal := h2 rest h1 h
theorem Jo0.mk {rest : Mem → Prop} {body : (Mem → Prop) → Prop} (R : Mem → Prop) (h1 : ∀ (σ : Mem), R σ → rest σ) (h2 : ∀ J : Mem → Prop, (∀ (σ : Mem), R σ → J σ) → body J) : Jo0 rest body := h2 rest h1

def lo1 (body : Int → Mem → (Int → Mem → Prop) → Prop) : Nat → Int → Mem → Prop
  | 0 => fun _ _ => False
  | k + 1 => fun x1 σ => body x1 σ (lo1 body k)
def Lo1 (body : Int → Mem → (Int → Mem → Prop) → Prop) (x1 : Int) (σ : Mem) : Prop := ∃ k, lo1 body k x1 σ
theorem Lo1.walk {body : Int → Mem → (Int → Mem → Prop) → Prop} {P : Int → Mem → Prop} (h : ∀ (x1 : Int) (σ : Mem) (again : Int → Mem → Prop), (∀ (y1 : Int) (σ' : Mem), again y1 σ' → P y1 σ') → body x1 σ again → P x1 σ) {x1 : Int} {σ : Mem} : Lo1 body x1 σ → P x1 σ := by
  rintro ⟨k, hk⟩
  have key : ∀ k (x1 : Int) (σ : Mem), lo1 body k x1 σ → P x1 σ := by
    intro k
    induction k with
    | zero => intro x1 σ h0; exact h0.elim
    | succ k ih => intro x1 σ h0; exact h x1 σ (lo1 body k) (fun y1 σ' h1 => ih y1 σ' h1) h0
  exact key k x1 σ hk
theorem Lo1.mk {body : Int → Mem → (Int → Mem → Prop) → Prop} (I : Int → Mem → Prop) (μ : Int → Mem → Nat) (hs : ∀ (x1 : Int) (σ : Mem) (again : Int → Mem → Prop), I x1 σ → (∀ (y1 : Int) (σ' : Mem), I y1 σ' → μ y1 σ' < μ x1 σ → again y1 σ') → body x1 σ again) {x1 : Int} {σ : Mem} (h0 : I x1 σ) : Lo1 body x1 σ := by
  have key : ∀ k (x1 : Int) (σ : Mem), μ x1 σ < k → I x1 σ → lo1 body k x1 σ := by
    intro k
    induction k with
    | zero => intro x1 σ h1; exact absurd h1 (Nat.not_lt_zero _)
    | succ k ih => intro x1 σ h1 h2; exact hs x1 σ (lo1 body k) h2 (fun y1 σ' h3 h4 => ih y1 σ' (by omega) h3)
  exact ⟨_, key _ x1 σ (Nat.lt_succ_self _) h0⟩
def Jo1 (rest : Int → Mem → Prop) (body : (Int → Mem → Prop) → Prop) : Prop := body rest
theorem Jo1.walk {rest : Int → Mem → Prop} {body : (Int → Mem → Prop) → Prop} {Goal : Prop} (P : Int → Mem → Prop) (h : Jo1 rest body) (h1 : ∀ (x1 : Int) (σ : Mem), rest x1 σ → P x1 σ) (h2 : ∀ J : Int → Mem → Prop, (∀ (x1 : Int) (σ : Mem), J x1 σ → P x1 σ) → body J → Goal) : Goal := h2 rest h1 h
theorem Jo1.mk {rest : Int → Mem → Prop} {body : (Int → Mem → Prop) → Prop} (R : Int → Mem → Prop) (h1 : ∀ (x1 : Int) (σ : Mem), R x1 σ → rest x1 σ) (h2 : ∀ J : Int → Mem → Prop, (∀ (x1 : Int) (σ : Mem), R x1 σ → J x1 σ) → body J) : Jo1 rest body := h2 rest h1

def lo2 (body : Int → Int → Mem → (Int → Int → Mem → Prop) → Prop) : Nat → Int → Int → Mem → Prop
  | 0 => fun _ _ _ => False
  | k + 1 => fun x1 x2 σ => body x1 x2 σ (lo2 body k)
def Lo2 (body : Int → Int → Mem → (Int → Int → Mem → Prop) → Prop) (x1 x2 : Int) (σ : Mem) : Prop := ∃ k, lo2 body k x1 x2 σ
theorem Lo2.walk {body : Int → Int → Mem → (Int → Int → Mem → Prop) → Prop} {P : Int → Int → Mem → Prop} (h : ∀ (x1 x2 : Int) (σ : Mem) (again : Int → Int → Mem → Prop), (∀ (y1 y2 : Int) (σ' : Mem), again y1 y2 σ' → P y1 y2 σ') → body x1 x2 σ again → P x1 x2 σ) {x1 x2 : Int} {σ : Mem} : Lo2 body x1 x2 σ → P x1 x2 σ := by
  rintro ⟨k, hk⟩
  have key : ∀ k (x1 x2 : Int) (σ : Mem), lo2 body k x1 x2 σ → P x1 x2 σ := by
    intro k
    induction k with
    | zero => intro x1 x2 σ h0; exact h0.elim
    | succ k ih => intro x1 x2 σ h0; exact h x1 x2 σ (lo2 body k) (fun y1 y2 σ' h1 => ih y1 y2 σ' h1) h0
  exact key k x1 x2 σ hk
theorem Lo2.mk {body : Int → Int → Mem → (Int → Int → Mem → Prop) → Prop} (I : Int → Int → Mem → Prop) (μ : Int → Int → Mem → Nat) (hs : ∀ (x1 x2 : Int) (σ : Mem) (again : Int → Int → Mem → Prop), I x1 x2 σ → (∀ (y1 y2 : Int) (σ' : Mem), I y1 y2 σ' → μ y1 y2 σ' < μ x1 x2 σ → again y1 y2 σ') → body x1 x2 σ again) {x1 x2 : Int} {σ : Mem} (h0 : I x1 x2 σ) : Lo2 body x1 x2 σ := by
  have key : ∀ k (x1 x2 : Int) (σ : Mem), μ x1 x2 σ < k → I x1 x2 σ → lo2 body k x1 x2 σ := by
    intro k
    induction k with
    | zero => intro x1 x2 σ h1; exact absurd h1 (Nat.not_lt_zero _)
    | succ k ih => intro x1 x2 σ h1 h2; exact hs x1 x2 σ (lo2 body k) h2 (fun y1 y2 σ' h3 h4 => ih y1 y2 σ' (by omega) h3)
  exact ⟨_, key _ x1 x2 σ (Nat.lt_succ_self _) h0⟩
def Jo2 (rest : Int → Int → Mem → Prop) (body : (Int → Int → Mem → Prop) → Prop) : Prop := body rest
theorem Jo2.walk {rest : Int → Int → Mem → Prop} {body : (Int → Int → Mem → Prop) → Prop} {Goal : Prop} (P : Int → Int → Mem → Prop) (h : Jo2 rest body) (h1 : ∀ (x1 x2 : Int) (σ : Mem), rest x1 x2 σ → P x1 x2 σ) (h2 : ∀ J : Int → Int → Mem → Prop, (∀ (x1 x2 : Int) (σ : Mem), J x1 x2 σ → P x1 x2 σ) → body J → Goal) : Goal := h2 rest h1 h
theorem Jo2.mk {rest : Int → Int → Mem → Prop} {body : (Int → Int → Mem → Prop) → Prop} (R : Int → Int → Mem → Prop) (h1 : ∀ (x1 x2 : Int) (σ : Mem), R x1 x2 σ → rest x1 x2 σ) (h2 : ∀ J : Int → Int → Mem → Prop, (∀ (x1 x2 : Int) (σ : Mem), R x1 x2 σ → J x1 x2 σ) → body J) : Jo2 rest body := h2 rest h1

def lo3 (body : Int → Int → Int → Mem → (Int → Int → Int → Mem → Prop) → Prop) : Nat → Int → Int → Int → Mem → Prop
  | 0 => fun _ _ _ _ => False
  | k + 1 => fun x1 x2 x3 σ => body x1 x2 x3 σ (lo3 body k)
def Lo3 (body : Int → Int → Int → Mem → (Int → Int → Int → Mem → Prop) → Prop) (x1 x2 x3 : Int) (σ : Mem) : Prop := ∃ k, lo3 body k x1 x2 x3 σ
theorem Lo3.walk {body : Int → Int → Int → Mem → (Int → Int → Int → Mem → Prop) → Prop} {P : Int → Int → Int → Mem → Prop} (h : ∀ (x1 x2 x3 : Int) (σ : Mem) (again : Int → Int → Int → Mem → Prop), (∀ (y1 y2 y3 : Int) (σ' : Mem), again y1 y2 y3 σ' → P y1 y2 y3 σ') → body x1 x2 x3 σ again → P x1 x2 x3 σ) {x1 x2 x3 : Int} {σ : Mem} : Lo3 body x1 x2 x3 σ → P x1 x2 x3 σ := by
  rintro ⟨k, hk⟩
  have key : ∀ k (x1 x2 x3 : Int) (σ : Mem), lo3 body k x1 x2 x3 σ → P x1 x2 x3 σ := by
    intro k
    induction k with
    | zero => intro x1 x2 x3 σ h0; exact h0.elim
    | succ k ih => intro x1 x2 x3 σ h0; exact h x1 x2 x3 σ (lo3 body k) (fun y1 y2 y3 σ' h1 => ih y1 y2 y3 σ' h1) h0
  exact key k x1 x2 x3 σ hk
theorem Lo3.mk {body : Int → Int → Int → Mem → (Int → Int → Int → Mem → Prop) → Prop} (I : Int → Int → Int → Mem → Prop) (μ : Int → Int → Int → Mem → Nat) (hs : ∀ (x1 x2 x3 : Int) (σ : Mem) (again : Int → Int → Int → Mem → Prop), I x1 x2 x3 σ → (∀ (y1 y2 y3 : Int) (σ' : Mem), I y1 y2 y3 σ' → μ y1 y2 y3 σ' < μ x1 x2 x3 σ → again y1 y2 y3 σ') → body x1 x2 x3 σ again) {x1 x2 x3 : Int} {σ : Mem} (h0 : I x1 x2 x3 σ) : Lo3 body x1 x2 x3 σ := by
  have key : ∀ k (x1 x2 x3 : Int) (σ : Mem), μ x1 x2 x3 σ < k → I x1 x2 x3 σ → lo3 body k x1 x2 x3 σ := by
    intro k
    induction k with
    | zero => intro x1 x2 x3 σ h1; exact absurd h1 (Nat.not_lt_zero _)
    | succ k ih => intro x1 x2 x3 σ h1 h2; exact hs x1 x2 x3 σ (lo3 body k) h2 (fun y1 y2 y3 σ' h3 h4 => ih y1 y2 y3 σ' (by omega) h3)
  exact ⟨_, key _ x1 x2 x3 σ (Nat.lt_succ_self _) h0⟩
def Jo3 (rest : Int → Int → Int → Mem → Prop) (body : (Int → Int → Int → Mem → Prop) → Prop) : Prop := body rest
theorem Jo3.walk {rest : Int → Int → Int → Mem → Prop} {body : (Int → Int → Int → Mem → Prop) → Prop} {Goal : Prop} (P : Int → Int → Int → Mem → Prop) (h : Jo3 rest body) (h1 : ∀ (x1 x2 x3 : Int) (σ : Mem), rest x1 x2 x3 σ → P x1 x2 x3 σ) (h2 : ∀ J : Int → Int → Int → Mem → Prop, (∀ (x1 x2 x3 : Int) (σ : Mem), J x1 x2 x3 σ → P x1 x2 x3 σ) → body J → Goal) : Goal := h2 rest h1 h
theorem Jo3.mk {rest : Int → Int → Int → Mem → Prop} {body : (Int → Int → Int → Mem → Prop) → Prop} (R : Int → Int → Int → Mem → Prop) (h1 : ∀ (x1 x2 x3 : Int) (σ : Mem), R x1 x2 x3 σ → rest x1 x2 x3 σ) (h2 : ∀ J : Int → Int → Int → Mem → Prop, (∀ (x1 x2 x3 : Int) (σ : Mem), R x1 x2 x3 σ → J x1 x2 x3 σ) → body J) : Jo3 rest body := h2 rest h1

def lo4 (body : Int → Int → Int → Int → Mem → (Int → Int → Int → Int → Mem → Prop) → Prop) : Nat → Int → Int → Int → Int → Mem → Prop
  | 0 => fun _ _ _ _ _ => False
  | k + 1 => fun x1 x2 x3 x4 σ => body x1 x2 x3 x4 σ (lo4 body k)
def Lo4 (body : Int → Int → Int → Int → Mem → (Int → Int → Int → Int → Mem → Prop) → Prop) (x1 x2 x3 x4 : Int) (σ : Mem) : Prop := ∃ k, lo4 body k x1 x2 x3 x4 σ
theorem Lo4.walk {body : Int → Int → Int → Int → Mem → (Int → Int → Int → Int → Mem → Prop) → Prop} {P : Int → Int → Int → Int → Mem → Prop} (h : ∀ (x1 x2 x3 x4 : Int) (σ : Mem) (again : Int → Int → Int → Int → Mem → Prop), (∀ (y1 y2 y3 y4 : Int) (σ' : Mem), again y1 y2 y3 y4 σ' → P y1 y2 y3 y4 σ') → body x1 x2 x3 x4 σ again → P x1 x2 x3 x4 σ) {x1 x2 x3 x4 : Int} {σ : Mem} : Lo4 body x1 x2 x3 x4 σ → P x1 x2 x3 x4 σ := by
  rintro ⟨k, hk⟩
  have key : ∀ k (x1 x2 x3 x4 : Int) (σ : Mem), lo4 body k x1 x2 x3 x4 σ → P x1 x2 x3 x4 σ := by
    intro k
    induction k with
    | zero => intro x1 x2 x3 x4 σ h0; exact h0.elim
    | succ k ih => intro x1 x2 x3 x4 σ h0; exact h x1 x2 x3 x4 σ (lo4 body k) (fun y1 y2 y3 y4 σ' h1 => ih y1 y2 y3 y4 σ' h1) h0
  exact key k x1 x2 x3 x4 σ hk
theorem Lo4.mk {body : Int → Int → Int → Int → Mem → (Int → Int → Int → Int → Mem → Prop) → Prop} (I : Int → Int → Int → Int → Mem → Prop) (μ : Int → Int → Int → Int → Mem → Nat) (hs : ∀ (x1 x2 x3 x4 : Int) (σ : Mem) (again : Int → Int → Int → Int → Mem → Prop), I x1 x2 x3 x4 σ → (∀ (y1 y2 y3 y4 : Int) (σ' : Mem), I y1 y2 y3 y4 σ' → μ y1 y2 y3 y4 σ' < μ x1 x2 x3 x4 σ → again y1 y2 y3 y4 σ') → body x1 x2 x3 x4 σ again) {x1 x2 x3 x4 : Int} {σ : Mem} (h0 : I x1 x2 x3 x4 σ) : Lo4 body x1 x2 x3 x4 σ := by
  have key : ∀ k (x1 x2 x3 x4 : Int) (σ : Mem), μ x1 x2 x3 x4 σ < k → I x1 x2 x3 x4 σ → lo4 body k x1 x2 x3 x4 σ := by
    intro k
    induction k with
    | zero => intro x1 x2 x3 x4 σ h1; exact absurd h1 (Nat.not_lt_zero _)
    | succ k ih => intro x1 x2 x3 x4 σ h1 h2; exact hs x1 x2 x3 x4 σ (lo4 body k) h2 (fun y1 y2 y3 y4 σ' h3 h4 => ih y1 y2 y3 y4 σ' (by omega) h3)
  exact ⟨_, key _ x1 x2 x3 x4 σ (Nat.lt_succ_self _) h0⟩
def Jo4 (rest : Int → Int → Int → Int → Mem → Prop) (body : (Int → Int → Int → Int → Mem → Prop) → Prop) : Prop := body rest
theorem Jo4.walk {rest : Int → Int → Int → Int → Mem → Prop} {body : (Int → Int → Int → Int → Mem → Prop) → Prop} {Goal : Prop} (P : Int → Int → Int → Int → Mem → Prop) (h : Jo4 rest body) (h1 : ∀ (x1 x2 x3 x4 : Int) (σ : Mem), rest x1 x2 x3 x4 σ → P x1 x2 x3 x4 σ) (h2 : ∀ J : Int → Int → Int → Int → Mem → Prop, (∀ (x1 x2 x3 x4 : Int) (σ : Mem), J x1 x2 x3 x4 σ → P x1 x2 x3 x4 σ) → body J → Goal) : Goal := h2 rest h1 h
theorem Jo4.mk {rest : Int → Int → Int → Int → Mem → Prop} {body : (Int → Int → Int → Int → Mem → Prop) → Prop} (R : Int → Int → Int → Int → Mem → Prop) (h1 : ∀ (x1 x2 x3 x4 : Int) (σ : Mem), R x1 x2 x3 x4 σ → rest x1 x2 x3 x4 σ) (h2 : ∀ J : Int → Int → Int → Int → Mem → Prop, (∀ (x1 x2 x3 x4 : Int) (σ : Mem), R x1 x2 x3 x4 σ → J x1 x2 x3 x4 σ) → body J) : Jo4 rest body := h2 rest h1

def lo5 (body : Int → Int → Int → Int → Int → Mem → (Int → Int → Int → Int → Int → Mem → Prop) → Prop) : Nat → Int → Int → Int → Int → Int → Mem → Prop
  | 0 => fun _ _ _ _ _ _ => False
  | k + 1 => fun x1 x2 x3 x4 x5 σ => body x1 x2 x3 x4 x5 σ (lo5 body k)
def Lo5 (body : Int → Int → Int → Int → Int → Mem → (Int → Int → Int → Int → Int → Mem → Prop) → Prop) (x1 x2 x3 x4 x5 : Int) (σ : Mem) : Prop := ∃ k, lo5 body k x1 x2 x3 x4 x5 σ
theorem Lo5.walk {body : Int → Int → Int → Int → Int → Mem → (Int → Int → Int → Int → Int → Mem → Prop) → Prop} {P : Int → Int → Int → Int → Int → Mem → Prop} (h : ∀ (x1 x2 x3 x4 x5 : Int) (σ : Mem) (again : Int → Int → Int → Int → Int → Mem → Prop), (∀ (y1 y2 y3 y4 y5 : Int) (σ' : Mem), again y1 y2 y3 y4 y5 σ' → P y1 y2 y3 y4 y5 σ') → body x1 x2 x3 x4 x5 σ again → P x1 x2 x3 x4 x5 σ) {x1 x2 x3 x4 x5 : Int} {σ : Mem} : Lo5 body x1 x2 x3 x4 x5 σ → P x1 x2 x3 x4 x5 σ := by
  rintro ⟨k, hk⟩
  have key : ∀ k (x1 x2 x3 x4 x5 : Int) (σ : Mem), lo5 body k x1 x2 x3 x4 x5 σ → P x1 x2 x3 x4 x5 σ := by
    intro k
    induction k with
    | zero => intro x1 x2 x3 x4 x5 σ h0; exact h0.elim
    | succ k ih => intro x1 x2 x3 x4 x5 σ h0; exact h x1 x2 x3 x4 x5 σ (lo5 body k) (fun y1 y2 y3 y4 y5 σ' h1 => ih y1 y2 y3 y4 y5 σ' h1) h0
  exact key k x1 x2 x3 x4 x5 σ hk
theorem Lo5.mk {body : Int → Int → Int → Int → Int → Mem → (Int → Int → Int → Int → Int → Mem → Prop) → Prop} (I : Int → Int → Int → Int → Int → Mem → Prop) (μ : Int → Int → Int → Int → Int → Mem → Nat) (hs : ∀ (x1 x2 x3 x4 x5 : Int) (σ : Mem) (again : Int → Int → Int → Int → Int → Mem → Prop), I x1 x2 x3 x4 x5 σ → (∀ (y1 y2 y3 y4 y5 : Int) (σ' : Mem), I y1 y2 y3 y4 y5 σ' → μ y1 y2 y3 y4 y5 σ' < μ x1 x2 x3 x4 x5 σ → again y1 y2 y3 y4 y5 σ') → body x1 x2 x3 x4 x5 σ again) {x1 x2 x3 x4 x5 : Int} {σ : Mem} (h0 : I x1 x2 x3 x4 x5 σ) : Lo5 body x1 x2 x3 x4 x5 σ := by
  have key : ∀ k (x1 x2 x3 x4 x5 : Int) (σ : Mem), μ x1 x2 x3 x4 x5 σ < k → I x1 x2 x3 x4 x5 σ → lo5 body k x1 x2 x3 x4 x5 σ := by
    intro k
    induction k with
    | zero => intro x1 x2 x3 x4 x5 σ h1; exact absurd h1 (Nat.not_lt_zero _)
    | succ k ih => intro x1 x2 x3 x4 x5 σ h1 h2; exact hs x1 x2 x3 x4 x5 σ (lo5 body k) h2 (fun y1 y2 y3 y4 y5 σ' h3 h4 => ih y1 y2 y3 y4 y5 σ' (by omega) h3)
  exact ⟨_, key _ x1 x2 x3 x4 x5 σ (Nat.lt_succ_self _) h0⟩
def Jo5 (rest : Int → Int → Int → Int → Int → Mem → Prop) (body : (Int → Int → Int → Int → Int → Mem → Prop) → Prop) : Prop := body rest
theorem Jo5.walk {rest : Int → Int → Int → Int → Int → Mem → Prop} {body : (Int → Int → Int → Int → Int → Mem → Prop) → Prop} {Goal : Prop} (P : Int → Int → Int → Int → Int → Mem → Prop) (h : Jo5 rest body) (h1 : ∀ (x1 x2 x3 x4 x5 : Int) (σ : Mem), rest x1 x2 x3 x4 x5 σ → P x1 x2 x3 x4 x5 σ) (h2 : ∀ J : Int → Int → Int → Int → Int → Mem → Prop, (∀ (x1 x2 x3 x4 x5 : Int) (σ : Mem), J x1 x2 x3 x4 x5 σ → P x1 x2 x3 x4 x5 σ) → body J → Goal) : Goal := h2 rest h1 h
theorem Jo5.mk {rest : Int → Int → Int → Int → Int → Mem → Prop} {body : (Int → Int → Int → Int → Int → Mem → Prop) → Prop} (R : Int → Int → Int → Int → Int → Mem → Prop) (h1 : ∀ (x1 x2 x3 x4 x5 : Int) (σ : Mem), R x1 x2 x3 x4 x5 σ → rest x1 x2 x3 x4 x5 σ) (h2 : ∀ J : Int → Int → Int → Int → Int → Mem → Prop, (∀ (x1 x2 x3 x4 x5 : Int) (σ : Mem), R x1 x2 x3 x4 x5 σ → J x1 x2 x3 x4 x5 σ) → body J) : Jo5 rest body := h2 rest h1

def lo6 (body : Int → Int → Int → Int → Int → Int → Mem → (Int → Int → Int → Int → Int → Int → Mem → Prop) → Prop) : Nat → Int → Int → Int → Int → Int → Int → Mem → Prop
  | 0 => fun _ _ _ _ _ _ _ => False
  | k + 1 => fun x1 x2 x3 x4 x5 x6 σ => body x1 x2 x3 x4 x5 x6 σ (lo6 body k)
def Lo6 (body : Int → Int → Int → Int → Int → Int → Mem → (Int → Int → Int → Int → Int → Int → Mem → Prop) → Prop) (x1 x2 x3 x4 x5 x6 : Int) (σ : Mem) : Prop := ∃ k, lo6 body k x1 x2 x3 x4 x5 x6 σ
theorem Lo6.walk {body : Int → Int → Int → Int → Int → Int → Mem → (Int → Int → Int → Int → Int → Int → Mem → Prop) → Prop} {P : Int → Int → Int → Int → Int → Int → Mem → Prop} (h : ∀ (x1 x2 x3 x4 x5 x6 : Int) (σ : Mem) (again : Int → Int → Int → Int → Int → Int → Mem → Prop), (∀ (y1 y2 y3 y4 y5 y6 : Int) (σ' : Mem), again y1 y2 y3 y4 y5 y6 σ' → P y1 y2 y3 y4 y5 y6 σ') → body x1 x2 x3 x4 x5 x6 σ again → P x1 x2 x3 x4 x5 x6 σ) {x1 x2 x3 x4 x5 x6 : Int} {σ : Mem} : Lo6 body x1 x2 x3 x4 x5 x6 σ → P x1 x2 x3 x4 x5 x6 σ := by
  rintro ⟨k, hk⟩
  have key : ∀ k (x1 x2 x3 x4 x5 x6 : Int) (σ : Mem), lo6 body k x1 x2 x3 x4 x5 x6 σ → P x1 x2 x3 x4 x5 x6 σ := by
    intro k
    induction k with
    | zero => intro x1 x2 x3 x4 x5 x6 σ h0; exact h0.elim
    | succ k ih => intro x1 x2 x3 x4 x5 x6 σ h0; exact h x1 x2 x3 x4 x5 x6 σ (lo6 body k) (fun y1 y2 y3 y4 y5 y6 σ' h1 => ih y1 y2 y3 y4 y5 y6 σ' h1) h0
  exact key k x1 x2 x3 x4 x5 x6 σ hk
theorem Lo6.mk {body : Int → Int → Int → Int → Int → Int → Mem → (Int → Int → Int → Int → Int → Int → Mem → Prop) → Prop} (I : Int → Int → Int → Int → Int → Int → Mem → Prop) (μ : Int → Int → Int → Int → Int → Int → Mem → Nat) (hs : ∀ (x1 x2 x3 x4 x5 x6 : Int) (σ : Mem) (again : Int → Int → Int → Int → Int → Int → Mem → Prop), I x1 x2 x3 x4 x5 x6 σ → (∀ (y1 y2 y3 y4 y5 y6 : Int) (σ' : Mem), I y1 y2 y3 y4 y5 y6 σ' → μ y1 y2 y3 y4 y5 y6 σ' < μ x1 x2 x3 x4 x5 x6 σ → again y1 y2 y3 y4 y5 y6 σ') → body x1 x2 x3 x4 x5 x6 σ again) {x1 x2 x3 x4 x5 x6 : Int} {σ : Mem} (h0 : I x1 x2 x3 x4 x5 x6 σ) : Lo6 body x1 x2 x3 x4 x5 x6 σ := by
  have key : ∀ k (x1 x2 x3 x4 x5 x6 : Int) (σ : Mem), μ x1 x2 x3 x4 x5 x6 σ < k → I x1 x2 x3 x4 x5 x6 σ → lo6 body k x1 x2 x3 x4 x5 x6 σ := by
    intro k
    induction k with
    | zero => intro x1 x2 x3 x4 x5 x6 σ h1; exact absurd h1 (Nat.not_lt_zero _)
    | succ k ih => intro x1 x2 x3 x4 x5 x6 σ h1 h2; exact hs x1 x2 x3 x4 x5 x6 σ (lo6 body k) h2 (fun y1 y2 y3 y4 y5 y6 σ' h3 h4 => ih y1 y2 y3 y4 y5 y6 σ' (by omega) h3)
  exact ⟨_, key _ x1 x2 x3 x4 x5 x6 σ (Nat.lt_succ_self _) h0⟩
def Jo6 (rest : Int → Int → Int → Int → Int → Int → Mem → Prop) (body : (Int → Int → Int → Int → Int → Int → Mem → Prop) → Prop) : Prop := body rest
theorem Jo6.walk {rest : Int → Int → Int → Int → Int → Int → Mem → Prop} {body : (Int → Int → Int → Int → Int → Int → Mem → Prop) → Prop} {Goal : Prop} (P : Int → Int → Int → Int → Int → Int → Mem → Prop) (h : Jo6 rest body) (h1 : ∀ (x1 x2 x3 x4 x5 x6 : Int) (σ : Mem), rest x1 x2 x3 x4 x5 x6 σ → P x1 x2 x3 x4 x5 x6 σ) (h2 : ∀ J : Int → Int → Int → Int → Int → Int → Mem → Prop, (∀ (x1 x2 x3 x4 x5 x6 : Int) (σ : Mem), J x1 x2 x3 x4 x5 x6 σ → P x1 x2 x3 x4 x5 x6 σ) → body J → Goal) : Goal := h2 rest h1 h
theorem Jo6.mk {rest : Int → Int → Int → Int → Int → Int → Mem → Prop} {body : (Int → Int → Int → Int → Int → Int → Mem → Prop) → Prop} (R : Int → Int → Int → Int → Int → Int → Mem → Prop) (h1 : ∀ (x1 x2 x3 x4 x5 x6 : Int) (σ : Mem), R x1 x2 x3 x4 x5 x6 σ → rest x1 x2 x3 x4 x5 x6 σ) (h2 : ∀ J : Int → Int → Int → Int → Int → Int → Mem → Prop, (∀ (x1 x2 x3 x4 x5 x6 : Int) (σ : Mem), R x1 x2 x3 x4 x5 x6 σ → J x1 x2 x3 x4 x5 x6 σ) → body J) : Jo6 rest body := h2 rest h1

def lo7 (body : Int → Int → Int → Int → Int → Int → Int → Mem → (Int → Int → Int → Int → Int → Int → Int → Mem → Prop) → Prop) : Nat → Int → Int → Int → Int → Int → Int → Int → Mem → Prop
  | 0 => fun _ _ _ _ _ _ _ _ => False
  | k + 1 => fun x1 x2 x3 x4 x5 x6 x7 σ => body x1 x2 x3 x4 x5 x6 x7 σ (lo7 body k)
def Lo7 (body : Int → Int → Int → Int → Int → Int → Int → Mem → (Int → Int → Int → Int → Int → Int → Int → Mem → Prop) → Prop) (x1 x2 x3 x4 x5 x6 x7 : Int) (σ : Mem) : Prop := ∃ k, lo7 body k x1 x2 x3 x4 x5 x6 x7 σ
theorem Lo7.walk {body : Int → Int → Int → Int → Int → Int → Int → Mem → (Int → Int → Int → Int → Int → Int → Int → Mem → Prop) → Prop} {P : Int → Int → Int → Int → Int → Int → Int → Mem → Prop} (h : ∀ (x1 x2 x3 x4 x5 x6 x7 : Int) (σ : Mem) (again : Int → Int → Int → Int → Int → Int → Int → Mem → Prop), (∀ (y1 y2 y3 y4 y5 y6 y7 : Int) (σ' : Mem), again y1 y2 y3 y4 y5 y6 y7 σ' → P y1 y2 y3 y4 y5 y6 y7 σ') → body x1 x2 x3 x4 x5 x6 x7 σ again → P x1 x2 x3 x4 x5 x6 x7 σ) {x1 x2 x3 x4 x5 x6 x7 : Int} {σ : Mem} : Lo7 body x1 x2 x3 x4 x5 x6 x7 σ → P x1 x2 x3 x4 x5 x6 x7 σ := by
  rintro ⟨k, hk⟩
  have key : ∀ k (x1 x2 x3 x4 x5 x6 x7 : Int) (σ : Mem), lo7 body k x1 x2 x3 x4 x5 x6 x7 σ → P x1 x2 x3 x4 x5 x6 x7 σ := by
    intro k
    induction k with
    | zero => intro x1 x2 x3 x4 x5 x6 x7 σ h0; exact h0.elim
    | succ k ih => intro x1 x2 x3 x4 x5 x6 x7 σ h0; exact h x1 x2 x3 x4 x5 x6 x7 σ (lo7 body k) (fun y1 y2 y3 y4 y5 y6 y7 σ' h1 => ih y1 y2 y3 y4 y5 y6 y7 σ' h1) h0
  exact key k x1 x2 x3 x4 x5 x6 x7 σ hk
theorem Lo7.mk {body : Int → Int → Int → Int → Int → Int → Int → Mem → (Int → Int → Int → Int → Int → Int → Int → Mem → Prop) → Prop} (I : Int → Int → Int → Int → Int → Int → Int → Mem → Prop) (μ : Int → Int → Int → Int → Int → Int → Int → Mem → Nat) (hs : ∀ (x1 x2 x3 x4 x5 x6 x7 : Int) (σ : Mem) (again : Int → Int → Int → Int → Int → Int → Int → Mem → Prop), I x1 x2 x3 x4 x5 x6 x7 σ → (∀ (y1 y2 y3 y4 y5 y6 y7 : Int) (σ' : Mem), I y1 y2 y3 y4 y5 y6 y7 σ' → μ y1 y2 y3 y4 y5 y6 y7 σ' < μ x1 x2 x3 x4 x5 x6 x7 σ → again y1 y2 y3 y4 y5 y6 y7 σ') → body x1 x2 x3 x4 x5 x6 x7 σ again) {x1 x2 x3 x4 x5 x6 x7 : Int} {σ : Mem} (h0 : I x1 x2 x3 x4 x5 x6 x7 σ) : Lo7 body x1 x2 x3 x4 x5 x6 x7 σ := by
  have key : ∀ k (x1 x2 x3 x4 x5 x6 x7 : Int) (σ : Mem), μ x1 x2 x3 x4 x5 x6 x7 σ < k → I x1 x2 x3 x4 x5 x6 x7 σ → lo7 body k x1 x2 x3 x4 x5 x6 x7 σ := by
    intro k
    induction k with
    | zero => intro x1 x2 x3 x4 x5 x6 x7 σ h1; exact absurd h1 (Nat.not_lt_zero _)
    | succ k ih => intro x1 x2 x3 x4 x5 x6 x7 σ h1 h2; exact hs x1 x2 x3 x4 x5 x6 x7 σ (lo7 body k) h2 (fun y1 y2 y3 y4 y5 y6 y7 σ' h3 h4 => ih y1 y2 y3 y4 y5 y6 y7 σ' (by omega) h3)
  exact ⟨_, key _ x1 x2 x3 x4 x5 x6 x7 σ (Nat.lt_succ_self _) h0⟩
def Jo7 (rest : Int → Int → Int → Int → Int → Int → Int → Mem → Prop) (body : (Int → Int → Int → Int → Int → Int → Int → Mem → Prop) → Prop) : Prop := body rest
theorem Jo7.walk {rest : Int → Int → Int → Int → Int → Int → Int → Mem → Prop} {body : (Int → Int → Int → Int → Int → Int → Int → Mem → Prop) → Prop} {Goal : Prop} (P : Int → Int → Int → Int → Int → Int → Int → Mem → Prop) (h : Jo7 rest body) (h1 : ∀ (x1 x2 x3 x4 x5 x6 x7 : Int) (σ : Mem), rest x1 x2 x3 x4 x5 x6 x7 σ → P x1 x2 x3 x4 x5 x6 x7 σ) (h2 : ∀ J : Int → Int → Int → Int → Int → Int → Int → Mem → Prop, (∀ (x1 x2 x3 x4 x5 x6 x7 : Int) (σ : Mem), J x1 x2 x3 x4 x5 x6 x7 σ → P x1 x2 x3 x4 x5 x6 x7 σ) → body J → Goal) : Goal := h2 rest h1 h
theorem Jo7.mk {rest : Int → Int → Int → Int → Int → Int → Int → Mem → Prop} {body : (Int → Int → Int → Int → Int → Int → Int → Mem → Prop) → Prop} (R : Int → Int → Int → Int → Int → Int → Int → Mem → Prop) (h1 : ∀ (x1 x2 x3 x4 x5 x6 x7 : Int) (σ : Mem), R x1 x2 x3 x4 x5 x6 x7 σ → rest x1 x2 x3 x4 x5 x6 x7 σ) (h2 : ∀ J : Int → Int → Int → Int → Int → Int → Int → Mem → Prop, (∀ (x1 x2 x3 x4 x5 x6 x7 : Int) (σ : Mem), R x1 x2 x3 x4 x5 x6 x7 σ → J x1 x2 x3 x4 x5 x6 x7 σ) → body J) : Jo7 rest body := h2 rest h1

def lo8 (body : Int → Int → Int → Int → Int → Int → Int → Int → Mem → (Int → Int → Int → Int → Int → Int → Int → Int → Mem → Prop) → Prop) : Nat → Int → Int → Int → Int → Int → Int → Int → Int → Mem → Prop
  | 0 => fun _ _ _ _ _ _ _ _ _ => False
  | k + 1 => fun x1 x2 x3 x4 x5 x6 x7 x8 σ => body x1 x2 x3 x4 x5 x6 x7 x8 σ (lo8 body k)
def Lo8 (body : Int → Int → Int → Int → Int → Int → Int → Int → Mem → (Int → Int → Int → Int → Int → Int → Int → Int → Mem → Prop) → Prop) (x1 x2 x3 x4 x5 x6 x7 x8 : Int) (σ : Mem) : Prop := ∃ k, lo8 body k x1 x2 x3 x4 x5 x6 x7 x8 σ
theorem Lo8.walk {body : Int → Int → Int → Int → Int → Int → Int → Int → Mem → (Int → Int → Int → Int → Int → Int → Int → Int → Mem → Prop) → Prop} {P : Int → Int → Int → Int → Int → Int → Int → Int → Mem → Prop} (h : ∀ (x1 x2 x3 x4 x5 x6 x7 x8 : Int) (σ : Mem) (again : Int → Int → Int → Int → Int → Int → Int → Int → Mem → Prop), (∀ (y1 y2 y3 y4 y5 y6 y7 y8 : Int) (σ' : Mem), again y1 y2 y3 y4 y5 y6 y7 y8 σ' → P y1 y2 y3 y4 y5 y6 y7 y8 σ') → body x1 x2 x3 x4 x5 x6 x7 x8 σ again → P x1 x2 x3 x4 x5 x6 x7 x8 σ) {x1 x2 x3 x4 x5 x6 x7 x8 : Int} {σ : Mem} : Lo8 body x1 x2 x3 x4 x5 x6 x7 x8 σ → P x1 x2 x3 x4 x5 x6 x7 x8 σ := by
  rintro ⟨k, hk⟩
  have key : ∀ k (x1 x2 x3 x4 x5 x6 x7 x8 : Int) (σ : Mem), lo8 body k x1 x2 x3 x4 x5 x6 x7 x8 σ → P x1 x2 x3 x4 x5 x6 x7 x8 σ := by
    intro k
    induction k with
    | zero => intro x1 x2 x3 x4 x5 x6 x7 x8 σ h0; exact h0.elim
    | succ k ih => intro x1 x2 x3 x4 x5 x6 x7 x8 σ h0; exact h x1 x2 x3 x4 x5 x6 x7 x8 σ (lo8 body k) (fun y1 y2 y3 y4 y5 y6 y7 y8 σ' h1 => ih y1 y2 y3 y4 y5 y6 y7 y8 σ' h1) h0
  exact key k x1 x2 x3 x4 x5 x6 x7 x8 σ hk
theorem Lo8.mk {body : Int → Int → Int → Int → Int → Int → Int → Int → Mem → (Int → Int → Int → Int → Int → Int → Int → Int → Mem → Prop) → Prop} (I : Int → Int → Int → Int → Int → Int → Int → Int → Mem → Prop) (μ : Int → Int → Int → Int → Int → Int → Int → Int → Mem → Nat) (hs : ∀ (x1 x2 x3 x4 x5 x6 x7 x8 : Int) (σ : Mem) (again : Int → Int → Int → Int → Int → Int → Int → Int → Mem → Prop), I x1 x2 x3 x4 x5 x6 x7 x8 σ → (∀ (y1 y2 y3 y4 y5 y6 y7 y8 : Int) (σ' : Mem), I y1 y2 y3 y4 y5 y6 y7 y8 σ' → μ y1 y2 y3 y4 y5 y6 y7 y8 σ' < μ x1 x2 x3 x4 x5 x6 x7 x8 σ → again y1 y2 y3 y4 y5 y6 y7 y8 σ') → body x1 x2 x3 x4 x5 x6 x7 x8 σ again) {x1 x2 x3 x4 x5 x6 x7 x8 : Int} {σ : Mem} (h0 : I x1 x2 x3 x4 x5 x6 x7 x8 σ) : Lo8 body x1 x2 x3 x4 x5 x6 x7 x8 σ := by
  have key : ∀ k (x1 x2 x3 x4 x5 x6 x7 x8 : Int) (σ : Mem), μ x1 x2 x3 x4 x5 x6 x7 x8 σ < k → I x1 x2 x3 x4 x5 x6 x7 x8 σ → lo8 body k x1 x2 x3 x4 x5 x6 x7 x8 σ := by
    intro k
    induction k with
    | zero => intro x1 x2 x3 x4 x5 x6 x7 x8 σ h1; exact absurd h1 (Nat.not_lt_zero _)
    | succ k ih => intro x1 x2 x3 x4 x5 x6 x7 x8 σ h1 h2; exact hs x1 x2 x3 x4 x5 x6 x7 x8 σ (lo8 body k) h2 (fun y1 y2 y3 y4 y5 y6 y7 y8 σ' h3 h4 => ih y1 y2 y3 y4 y5 y6 y7 y8 σ' (by omega) h3)
  exact ⟨_, key _ x1 x2 x3 x4 x5 x6 x7 x8 σ (Nat.lt_succ_self _) h0⟩
def Jo8 (rest : Int → Int → Int → Int → Int → Int → Int → Int → Mem → Prop) (body : (Int → Int → Int → Int → Int → Int → Int → Int → Mem → Prop) → Prop) : Prop := body rest
theorem Jo8.walk {rest : Int → Int → Int → Int → Int → Int → Int → Int → Mem → Prop} {body : (Int → Int → Int → Int → Int → Int → Int → Int → Mem → Prop) → Prop} {Goal : Prop} (P : Int → Int → Int → Int → Int → Int → Int → Int → Mem → Prop) (h : Jo8 rest body) (h1 : ∀ (x1 x2 x3 x4 x5 x6 x7 x8 : Int) (σ : Mem), rest x1 x2 x3 x4 x5 x6 x7 x8 σ → P x1 x2 x3 x4 x5 x6 x7 x8 σ) (h2 : ∀ J : Int → Int → Int → Int → Int → Int → Int → Int → Mem → Prop, (∀ (x1 x2 x3 x4 x5 x6 x7 x8 : Int) (σ : Mem), J x1 x2 x3 x4 x5 x6 x7 x8 σ → P x1 x2 x3 x4 x5 x6 x7 x8 σ) → body J → Goal) : Goal := h2 rest h1 h
theorem Jo8.mk {rest : Int → Int → Int → Int → Int → Int → Int → Int → Mem → Prop} {body : (Int → Int → Int → Int → Int → Int → Int → Int → Mem → Prop) → Prop} (R : Int → Int → Int → Int → Int → Int → Int → Int → Mem → Prop) (h1 : ∀ (x1 x2 x3 x4 x5 x6 x7 x8 : Int) (σ : Mem), R x1 x2 x3 x4 x5 x6 x7 x8 σ → rest x1 x2 x3 x4 x5 x6 x7 x8 σ) (h2 : ∀ J : Int → Int → Int → Int → Int → Int → Int → Int → Mem → Prop, (∀ (x1 x2 x3 x4 x5 x6 x7 x8 : Int) (σ : Mem), R x1 x2 x3 x4 x5 x6 x7 x8 σ → J x1 x2 x3 x4 x5 x6 x7 x8 σ) → body J) : Jo8 rest body := h2 rest h1

def lo9 (body : Int → Int → Int → Int → Int → Int → Int → Int → Int → Mem → (Int → Int → Int → Int → Int → Int → Int → Int → Int → Mem → Prop) → Prop) : Nat → Int → Int → Int → Int → Int → Int → Int → Int → Int → Mem → Prop
  | 0 => fun _ _ _ _ _ _ _ _ _ _ => False
  | k + 1 => fun x1 x2 x3 x4 x5 x6 x7 x8 x9 σ => body x1 x2 x3 x4 x5 x6 x7 x8 x9 σ (lo9 body k)
def Lo9 (body : Int → Int → Int → Int → Int → Int → Int → Int → Int → Mem → (Int → Int → Int → Int → Int → Int → Int → Int → Int → Mem → Prop) → Prop) (x1 x2 x3 x4 x5 x6 x7 x8 x9 : Int) (σ : Mem) : Prop := ∃ k, lo9 body k x1 x2 x3 x4 x5 x6 x7 x8 x9 σ
theorem Lo9.walk {body : Int → Int → Int → Int → Int → Int → Int → Int → Int → Mem → (Int → Int → Int → Int → Int → Int → Int → Int → Int → Mem → Prop) → Prop} {P : Int → Int → Int → Int → Int → Int → Int → Int → Int → Mem → Prop} (h : ∀ (x1 x2 x3 x4 x5 x6 x7 x8 x9 : Int) (σ : Mem) (again : Int → Int → Int → Int → Int → Int → Int → Int → Int → Mem → Prop), (∀ (y1 y2 y3 y4 y5 y6 y7 y8 y9 : Int) (σ' : Mem), again y1 y2 y3 y4 y5 y6 y7 y8 y9 σ' → P y1 y2 y3 y4 y5 y6 y7 y8 y9 σ') → body x1 x2 x3 x4 x5 x6 x7 x8 x9 σ again → P x1 x2 x3 x4 x5 x6 x7 x8 x9 σ) {x1 x2 x3 x4 x5 x6 x7 x8 x9 : Int} {σ : Mem} : Lo9 body x1 x2 x3 x4 x5 x6 x7 x8 x9 σ → P x1 x2 x3 x4 x5 x6 x7 x8 x9 σ := by
  rintro ⟨k, hk⟩
  have key : ∀ k (x1 x2 x3 x4 x5 x6 x7 x8 x9 : Int) (σ : Mem), lo9 body k x1 x2 x3 x4 x5 x6 x7 x8 x9 σ → P x1 x2 x3 x4 x5 x6 x7 x8 x9 σ := by
    intro k
    induction k with
    | zero => intro x1 x2 x3 x4 x5 x6 x7 x8 x9 σ h0; exact h0.elim
    | succ k ih => intro x1 x2 x3 x4 x5 x6 x7 x8 x9 σ h0; exact h x1 x2 x3 x4 x5 x6 x7 x8 x9 σ (lo9 body k) (fun y1 y2 y3 y4 y5 y6 y7 y8 y9 σ' h1 => ih y1 y2 y3 y4 y5 y6 y7 y8 y9 σ' h1) h0
  exact key k x1 x2 x3 x4 x5 x6 x7 x8 x9 σ hk
theorem Lo9.mk {body : Int → Int → Int → Int → Int → Int → Int → Int → Int → Mem → (Int → Int → Int → Int → Int → Int → Int → Int → Int → Mem → Prop) → Prop} (I : Int → Int → Int → Int → Int → Int → Int → Int → Int → Mem → Prop) (μ : Int → Int → Int → Int → Int → Int → Int → Int → Int → Mem → Nat) (hs : ∀ (x1 x2 x3 x4 x5 x6 x7 x8 x9 : Int) (σ : Mem) (again : Int → Int → Int → Int → Int → Int → Int → Int → Int → Mem → Prop), I x1 x2 x3 x4 x5 x6 x7 x8 x9 σ → (∀ (y1 y2 y3 y4 y5 y6 y7 y8 y9 : Int) (σ' : Mem), I y1 y2 y3 y4 y5 y6 y7 y8 y9 σ' → μ y1 y2 y3 y4 y5 y6 y7 y8 y9 σ' < μ x1 x2 x3 x4 x5 x6 x7 x8 x9 σ → again y1 y2 y3 y4 y5 y6 y7 y8 y9 σ') → body x1 x2 x3 x4 x5 x6 x7 x8 x9 σ again) {x1 x2 x3 x4 x5 x6 x7 x8 x9 : Int} {σ : Mem} (h0 : I x1 x2 x3 x4 x5 x6 x7 x8 x9 σ) : Lo9 body x1 x2 x3 x4 x5 x6 x7 x8 x9 σ := by
  have key : ∀ k (x1 x2 x3 x4 x5 x6 x7 x8 x9 : Int) (σ : Mem), μ x1 x2 x3 x4 x5 x6 x7 x8 x9 σ < k → I x1 x2 x3 x4 x5 x6 x7 x8 x9 σ → lo9 body k x1 x2 x3 x4 x5 x6 x7 x8 x9 σ := by
    intro k
    induction k with
    | zero => intro x1 x2 x3 x4 x5 x6 x7 x8 x9 σ h1; exact absurd h1 (Nat.not_lt_zero _)
    | succ k ih => intro x1 x2 x3 x4 x5 x6 x7 x8 x9 σ h1 h2; exact hs x1 x2 x3 x4 x5 x6 x7 x8 x9 σ (lo9 body k) h2 (fun y1 y2 y3 y4 y5 y6 y7 y8 y9 σ' h3 h4 => ih y1 y2 y3 y4 y5 y6 y7 y8 y9 σ' (by omega) h3)
  exact ⟨_, key _ x1 x2 x3 x4 x5 x6 x7 x8 x9 σ (Nat.lt_succ_self _) h0⟩
def Jo9 (rest : Int → Int → Int → Int → Int → Int → Int → Int → Int → Mem → Prop) (body : (Int → Int → Int → Int → Int → Int → Int → Int → Int → Mem → Prop) → Prop) : Prop := body rest
theorem Jo9.walk {rest : Int → Int → Int → Int → Int → Int → Int → Int → Int → Mem → Prop} {body : (Int → Int → Int → Int → Int → Int → Int → Int → Int → Mem → Prop) → Prop} {Goal : Prop} (P : Int → Int → Int → Int → Int → Int → Int → Int → Int → Mem → Prop) (h : Jo9 rest body) (h1 : ∀ (x1 x2 x3 x4 x5 x6 x7 x8 x9 : Int) (σ : Mem), rest x1 x2 x3 x4 x5 x6 x7 x8 x9 σ → P x1 x2 x3 x4 x5 x6 x7 x8 x9 σ) (h2 : ∀ J : Int → Int → Int → Int → Int → Int → Int → Int → Int → Mem → Prop, (∀ (x1 x2 x3 x4 x5 x6 x7 x8 x9 : Int) (σ : Mem), J x1 x2 x3 x4 x5 x6 x7 x8 x9 σ → P x1 x2 x3 x4 x5 x6 x7 x8 x9 σ) → body J → Goal) : Goal := h2 rest h1 h
theorem Jo9.mk {rest : Int → Int → Int → Int → Int → Int → Int → Int → Int → Mem → Prop} {body : (Int → Int → Int → Int → Int → Int → Int → Int → Int → Mem → Prop) → Prop} (R : Int → Int → Int → Int → Int → Int → Int → Int → Int → Mem → Prop) (h1 : ∀ (x1 x2 x3 x4 x5 x6 x7 x8 x9 : Int) (σ : Mem), R x1 x2 x3 x4 x5 x6 x7 x8 x9 σ → rest x1 x2 x3 x4 x5 x6 x7 x8 x9 σ) (h2 : ∀ J : Int → Int → Int → Int → Int → Int → Int → Int → Int → Mem → Prop, (∀ (x1 x2 x3 x4 x5 x6 x7 x8 x9 : Int) (σ : Mem), R x1 x2 x3 x4 x5 x6 x7 x8 x9 σ → J x1 x2 x3 x4 x5 x6 x7 x8 x9 σ) → body J) : Jo9 rest body := h2 rest h1

def Jq0 (rest : Prop) (body : (Prop) → Prop) : Prop := body rest
theorem Jq0.walk {rest : Prop} {body : (Prop) → Prop} {Goal : Prop} (P : Prop) (h : Jq0 rest body) (h1 : rest → P) (h2 : ∀ J : Prop, (J → P) → body J → Goal) : Goal := h2 rest h1 h
theorem Jq0.mk {rest : Prop} {body : (Prop) → Prop} (R : Prop) (h1 : R → rest) (h2 : ∀ J : Prop, (R → J) → body J) : Jq0 rest body := h2 rest h1

def lq1 (body : Int → (Int → Prop) → Prop) : Nat → Int → Prop
  | 0 => fun _ => False
  | k + 1 => fun x1 => body x1 (lq1 body k)
def Lq1 (body : Int → (Int → Prop) → Prop) (x1 : Int) : Prop := ∃ k, lq1 body k x1
theorem Lq1.walk {body : Int → (Int → Prop) → Prop} {P : Int → Prop} (h : ∀ (x1 : Int) (again : Int → Prop), (∀ (y1 : Int), again y1 → P y1) → body x1 again → P x1) {x1 : Int} : Lq1 body x1 → P x1 := by
  rintro ⟨k, hk⟩
  have key : ∀ k (x1 : Int), lq1 body k x1 → P x1 := by
    intro k
    induction k with
    | zero => intro x1 h0; exact h0.elim
    | succ k ih => intro x1 h0; exact h x1 (lq1 body k) (fun y1 h1 => ih y1 h1) h0
  exact key k x1 hk
theorem Lq1.mk {body : Int → (Int → Prop) → Prop} (I : Int → Prop) (μ : Int → Nat) (hs : ∀ (x1 : Int) (again : Int → Prop), I x1 → (∀ (y1 : Int), I y1 → μ y1 < μ x1 → again y1) → body x1 again) {x1 : Int} (h0 : I x1) : Lq1 body x1 := by
  have key : ∀ k (x1 : Int), μ x1 < k → I x1 → lq1 body k x1 := by
    intro k
    induction k with
    | zero => intro x1 h1; exact absurd h1 (Nat.not_lt_zero _)
    | succ k ih => intro x1 h1 h2; exact hs x1 (lq1 body k) h2 (fun y1 h3 h4 => ih y1 (by omega) h3)
  exact ⟨_, key _ x1 (Nat.lt_succ_self _) h0⟩
def Jq1 (rest : Int → Prop) (body : (Int → Prop) → Prop) : Prop := body rest
theorem Jq1.walk {rest : Int → Prop} {body : (Int → Prop) → Prop} {Goal : Prop} (P : Int → Prop) (h : Jq1 rest body) (h1 : ∀ (x1 : Int), rest x1 → P x1) (h2 : ∀ J : Int → Prop, (∀ (x1 : Int), J x1 → P x1) → body J → Goal) : Goal := h2 rest h1 h
theorem Jq1.mk {rest : Int → Prop} {body : (Int → Prop) → Prop} (R : Int → Prop) (h1 : ∀ (x1 : Int), R x1 → rest x1) (h2 : ∀ J : Int → Prop, (∀ (x1 : Int), R x1 → J x1) → body J) : Jq1 rest body := h2 rest h1

def lq2 (body : Int → Int → (Int → Int → Prop) → Prop) : Nat → Int → Int → Prop
  | 0 => fun _ _ => False
  | k + 1 => fun x1 x2 => body x1 x2 (lq2 body k)
def Lq2 (body : Int → Int → (Int → Int → Prop) → Prop) (x1 x2 : Int) : Prop := ∃ k, lq2 body k x1 x2
theorem Lq2.walk {body : Int → Int → (Int → Int → Prop) → Prop} {P : Int → Int → Prop} (h : ∀ (x1 x2 : Int) (again : Int → Int → Prop), (∀ (y1 y2 : Int), again y1 y2 → P y1 y2) → body x1 x2 again → P x1 x2) {x1 x2 : Int} : Lq2 body x1 x2 → P x1 x2 := by
  rintro ⟨k, hk⟩
  have key : ∀ k (x1 x2 : Int), lq2 body k x1 x2 → P x1 x2 := by
    intro k
    induction k with
    | zero => intro x1 x2 h0; exact h0.elim
    | succ k ih => intro x1 x2 h0; exact h x1 x2 (lq2 body k) (fun y1 y2 h1 => ih y1 y2 h1) h0
  exact key k x1 x2 hk
theorem Lq2.mk {body : Int → Int → (Int → Int → Prop) → Prop} (I : Int → Int → Prop) (μ : Int → Int → Nat) (hs : ∀ (x1 x2 : Int) (again : Int → Int → Prop), I x1 x2 → (∀ (y1 y2 : Int), I y1 y2 → μ y1 y2 < μ x1 x2 → again y1 y2) → body x1 x2 again) {x1 x2 : Int} (h0 : I x1 x2) : Lq2 body x1 x2 := by
  have key : ∀ k (x1 x2 : Int), μ x1 x2 < k → I x1 x2 → lq2 body k x1 x2 := by
    intro k
    induction k with
    | zero => intro x1 x2 h1; exact absurd h1 (Nat.not_lt_zero _)
    | succ k ih => intro x1 x2 h1 h2; exact hs x1 x2 (lq2 body k) h2 (fun y1 y2 h3 h4 => ih y1 y2 (by omega) h3)
  exact ⟨_, key _ x1 x2 (Nat.lt_succ_self _) h0⟩
def Jq2 (rest : Int → Int → Prop) (body : (Int → Int → Prop) → Prop) : Prop := body rest
theorem Jq2.walk {rest : Int → Int → Prop} {body : (Int → Int → Prop) → Prop} {Goal : Prop} (P : Int → Int → Prop) (h : Jq2 rest body) (h1 : ∀ (x1 x2 : Int), rest x1 x2 → P x1 x2) (h2 : ∀ J : Int → Int → Prop, (∀ (x1 x2 : Int), J x1 x2 → P x1 x2) → body J → Goal) : Goal := h2 rest h1 h
theorem Jq2.mk {rest : Int → Int → Prop} {body : (Int → Int → Prop) → Prop} (R : Int → Int → Prop) (h1 : ∀ (x1 x2 : Int), R x1 x2 → rest x1 x2) (h2 : ∀ J : Int → Int → Prop, (∀ (x1 x2 : Int), R x1 x2 → J x1 x2) → body J) : Jq2 rest body := h2 rest h1

def lq3 (body : Int → Int → Int → (Int → Int → Int → Prop) → Prop) : Nat → Int → Int → Int → Prop
  | 0 => fun _ _ _ => False
  | k + 1 => fun x1 x2 x3 => body x1 x2 x3 (lq3 body k)
def Lq3 (body : Int → Int → Int → (Int → Int → Int → Prop) → Prop) (x1 x2 x3 : Int) : Prop := ∃ k, lq3 body k x1 x2 x3
theorem Lq3.walk {body : Int → Int → Int → (Int → Int → Int → Prop) → Prop} {P : Int → Int → Int → Prop} (h : ∀ (x1 x2 x3 : Int) (again : Int → Int → Int → Prop), (∀ (y1 y2 y3 : Int), again y1 y2 y3 → P y1 y2 y3) → body x1 x2 x3 again → P x1 x2 x3) {x1 x2 x3 : Int} : Lq3 body x1 x2 x3 → P x1 x2 x3 := by
  rintro ⟨k, hk⟩
  have key : ∀ k (x1 x2 x3 : Int), lq3 body k x1 x2 x3 → P x1 x2 x3 := by
    intro k
    induction k with
    | zero => intro x1 x2 x3 h0; exact h0.elim
    | succ k ih => intro x1 x2 x3 h0; exact h x1 x2 x3 (lq3 body k) (fun y1 y2 y3 h1 => ih y1 y2 y3 h1) h0
  exact key k x1 x2 x3 hk
theorem Lq3.mk {body : Int → Int → Int → (Int → Int → Int → Prop) → Prop} (I : Int → Int → Int → Prop) (μ : Int → Int → Int → Nat) (hs : ∀ (x1 x2 x3 : Int) (again : Int → Int → Int → Prop), I x1 x2 x3 → (∀ (y1 y2 y3 : Int), I y1 y2 y3 → μ y1 y2 y3 < μ x1 x2 x3 → again y1 y2 y3) → body x1 x2 x3 again) {x1 x2 x3 : Int} (h0 : I x1 x2 x3) : Lq3 body x1 x2 x3 := by
  have key : ∀ k (x1 x2 x3 : Int), μ x1 x2 x3 < k → I x1 x2 x3 → lq3 body k x1 x2 x3 := by
    intro k
    induction k with
    | zero => intro x1 x2 x3 h1; exact absurd h1 (Nat.not_lt_zero _)
    | succ k ih => intro x1 x2 x3 h1 h2; exact hs x1 x2 x3 (lq3 body k) h2 (fun y1 y2 y3 h3 h4 => ih y1 y2 y3 (by omega) h3)
  exact ⟨_, key _ x1 x2 x3 (Nat.lt_succ_self _) h0⟩
def Jq3 (rest : Int → Int → Int → Prop) (body : (Int → Int → Int → Prop) → Prop) : Prop := body rest
theorem Jq3.walk {rest : Int → Int → Int → Prop} {body : (Int → Int → Int → Prop) → Prop} {Goal : Prop} (P : Int → Int → Int → Prop) (h : Jq3 rest body) (h1 : ∀ (x1 x2 x3 : Int), rest x1 x2 x3 → P x1 x2 x3) (h2 : ∀ J : Int → Int → Int → Prop, (∀ (x1 x2 x3 : Int), J x1 x2 x3 → P x1 x2 x3) → body J → Goal) : Goal := h2 rest h1 h
theorem Jq3.mk {rest : Int → Int → Int → Prop} {body : (Int → Int → Int → Prop) → Prop} (R : Int → Int → Int → Prop) (h1 : ∀ (x1 x2 x3 : Int), R x1 x2 x3 → rest x1 x2 x3) (h2 : ∀ J : Int → Int → Int → Prop, (∀ (x1 x2 x3 : Int), R x1 x2 x3 → J x1 x2 x3) → body J) : Jq3 rest body := h2 rest h1

def lq4 (body : Int → Int → Int → Int → (Int → Int → Int → Int → Prop) → Prop) : Nat → Int → Int → Int → Int → Prop
  | 0 => fun _ _ _ _ => False
  | k + 1 => fun x1 x2 x3 x4 => body x1 x2 x3 x4 (lq4 body k)
def Lq4 (body : Int → Int → Int → Int → (Int → Int → Int → Int → Prop) → Prop) (x1 x2 x3 x4 : Int) : Prop := ∃ k, lq4 body k x1 x2 x3 x4
theorem Lq4.walk {body : Int → Int → Int → Int → (Int → Int → Int → Int → Prop) → Prop} {P : Int → Int → Int → Int → Prop} (h : ∀ (x1 x2 x3 x4 : Int) (again : Int → Int → Int → Int → Prop), (∀ (y1 y2 y3 y4 : Int), again y1 y2 y3 y4 → P y1 y2 y3 y4) → body x1 x2 x3 x4 again → P x1 x2 x3 x4) {x1 x2 x3 x4 : Int} : Lq4 body x1 x2 x3 x4 → P x1 x2 x3 x4 := by
  rintro ⟨k, hk⟩
  have key : ∀ k (x1 x2 x3 x4 : Int), lq4 body k x1 x2 x3 x4 → P x1 x2 x3 x4 := by
    intro k
    induction k with
    | zero => intro x1 x2 x3 x4 h0; exact h0.elim
    | succ k ih => intro x1 x2 x3 x4 h0; exact h x1 x2 x3 x4 (lq4 body k) (fun y1 y2 y3 y4 h1 => ih y1 y2 y3 y4 h1) h0
  exact key k x1 x2 x3 x4 hk
theorem Lq4.mk {body : Int → Int → Int → Int → (Int → Int → Int → Int → Prop) → Prop} (I : Int → Int → Int → Int → Prop) (μ : Int → Int → Int → Int → Nat) (hs : ∀ (x1 x2 x3 x4 : Int) (again : Int → Int → Int → Int → Prop), I x1 x2 x3 x4 → (∀ (y1 y2 y3 y4 : Int), I y1 y2 y3 y4 → μ y1 y2 y3 y4 < μ x1 x2 x3 x4 → again y1 y2 y3 y4) → body x1 x2 x3 x4 again) {x1 x2 x3 x4 : Int} (h0 : I x1 x2 x3 x4) : Lq4 body x1 x2 x3 x4 := by
  have key : ∀ k (x1 x2 x3 x4 : Int), μ x1 x2 x3 x4 < k → I x1 x2 x3 x4 → lq4 body k x1 x2 x3 x4 := by
    intro k
    induction k with
    | zero => intro x1 x2 x3 x4 h1; exact absurd h1 (Nat.not_lt_zero _)
    | succ k ih => intro x1 x2 x3 x4 h1 h2; exact hs x1 x2 x3 x4 (lq4 body k) h2 (fun y1 y2 y3 y4 h3 h4 => ih y1 y2 y3 y4 (by omega) h3)
  exact ⟨_, key _ x1 x2 x3 x4 (Nat.lt_succ_self _) h0⟩
def Jq4 (rest : Int → Int → Int → Int → Prop) (body : (Int → Int → Int → Int → Prop) → Prop) : Prop := body rest
theorem Jq4.walk {rest : Int → Int → Int → Int → Prop} {body : (Int → Int → Int → Int → Prop) → Prop} {Goal : Prop} (P : Int → Int → Int → Int → Prop) (h : Jq4 rest body) (h1 : ∀ (x1 x2 x3 x4 : Int), rest x1 x2 x3 x4 → P x1 x2 x3 x4) (h2 : ∀ J : Int → Int → Int → Int → Prop, (∀ (x1 x2 x3 x4 : Int), J x1 x2 x3 x4 → P x1 x2 x3 x4) → body J → Goal) : Goal := h2 rest h1 h
theorem Jq4.mk {rest : Int → Int → Int → Int → Prop} {body : (Int → Int → Int → Int → Prop) → Prop} (R : Int → Int → Int → Int → Prop) (h1 : ∀ (x1 x2 x3 x4 : Int), R x1 x2 x3 x4 → rest x1 x2 x3 x4) (h2 : ∀ J : Int → Int → Int → Int → Prop, (∀ (x1 x2 x3 x4 : Int), R x1 x2 x3 x4 → J x1 x2 x3 x4) → body J) : Jq4 rest body := h2 rest h1

def lq5 (body : Int → Int → Int → Int → Int → (Int → Int → Int → Int → Int → Prop) → Prop) : Nat → Int → Int → Int → Int → Int → Prop
  | 0 => fun _ _ _ _ _ => False
  | k + 1 => fun x1 x2 x3 x4 x5 => body x1 x2 x3 x4 x5 (lq5 body k)
def Lq5 (body : Int → Int → Int → Int → Int → (Int → Int → Int → Int → Int → Prop) → Prop) (x1 x2 x3 x4 x5 : Int) : Prop := ∃ k, lq5 body k x1 x2 x3 x4 x5
theorem Lq5.walk {body : Int → Int → Int → Int → Int → (Int → Int → Int → Int → Int → Prop) → Prop} {P : Int → Int → Int → Int → Int → Prop} (h : ∀ (x1 x2 x3 x4 x5 : Int) (again : Int → Int → Int → Int → Int → Prop), (∀ (y1 y2 y3 y4 y5 : Int), again y1 y2 y3 y4 y5 → P y1 y2 y3 y4 y5) → body x1 x2 x3 x4 x5 again → P x1 x2 x3 x4 x5) {x1 x2 x3 x4 x5 : Int} : Lq5 body x1 x2 x3 x4 x5 → P x1 x2 x3 x4 x5 := by
  rintro ⟨k, hk⟩
  have key : ∀ k (x1 x2 x3 x4 x5 : Int), lq5 body k x1 x2 x3 x4 x5 → P x1 x2 x3 x4 x5 := by
    intro k
    induction k with
    | zero => intro x1 x2 x3 x4 x5 h0; exact h0.elim
    | succ k ih => intro x1 x2 x3 x4 x5 h0; exact h x1 x2 x3 x4 x5 (lq5 body k) (fun y1 y2 y3 y4 y5 h1 => ih y1 y2 y3 y4 y5 h1) h0
  exact key k x1 x2 x3 x4 x5 hk
theorem Lq5.mk {body : Int → Int → Int → Int → Int → (Int → Int → Int → Int → Int → Prop) → Prop} (I : Int → Int → Int → Int → Int → Prop) (μ : Int → Int → Int → Int → Int → Nat) (hs : ∀ (x1 x2 x3 x4 x5 : Int) (again : Int → Int → Int → Int → Int → Prop), I x1 x2 x3 x4 x5 → (∀ (y1 y2 y3 y4 y5 : Int), I y1 y2 y3 y4 y5 → μ y1 y2 y3 y4 y5 < μ x1 x2 x3 x4 x5 → again y1 y2 y3 y4 y5) → body x1 x2 x3 x4 x5 again) {x1 x2 x3 x4 x5 : Int} (h0 : I x1 x2 x3 x4 x5) : Lq5 body x1 x2 x3 x4 x5 := by
  have key : ∀ k (x1 x2 x3 x4 x5 : Int), μ x1 x2 x3 x4 x5 < k → I x1 x2 x3 x4 x5 → lq5 body k x1 x2 x3 x4 x5 := by
    intro k
    induction k with
    | zero => intro x1 x2 x3 x4 x5 h1; exact absurd h1 (Nat.not_lt_zero _)
    | succ k ih => intro x1 x2 x3 x4 x5 h1 h2; exact hs x1 x2 x3 x4 x5 (lq5 body k) h2 (fun y1 y2 y3 y4 y5 h3 h4 => ih y1 y2 y3 y4 y5 (by omega) h3)
  exact ⟨_, key _ x1 x2 x3 x4 x5 (Nat.lt_succ_self _) h0⟩
def Jq5 (rest : Int → Int → Int → Int → Int → Prop) (body : (Int → Int → Int → Int → Int → Prop) → Prop) : Prop := body rest
theorem Jq5.walk {rest : Int → Int → Int → Int → Int → Prop} {body : (Int → Int → Int → Int → Int → Prop) → Prop} {Goal : Prop} (P : Int → Int → Int → Int → Int → Prop) (h : Jq5 rest body) (h1 : ∀ (x1 x2 x3 x4 x5 : Int), rest x1 x2 x3 x4 x5 → P x1 x2 x3 x4 x5) (h2 : ∀ J : Int → Int → Int → Int → Int → Prop, (∀ (x1 x2 x3 x4 x5 : Int), J x1 x2 x3 x4 x5 → P x1 x2 x3 x4 x5) → body J → Goal) : Goal := h2 rest h1 h
theorem Jq5.mk {rest : Int → Int → Int → Int → Int → Prop} {body : (Int → Int → Int → Int → Int → Prop) → Prop} (R : Int → Int → Int → Int → Int → Prop) (h1 : ∀ (x1 x2 x3 x4 x5 : Int), R x1 x2 x3 x4 x5 → rest x1 x2 x3 x4 x5) (h2 : ∀ J : Int → Int → Int → Int → Int → Prop, (∀ (x1 x2 x3 x4 x5 : Int), R x1 x2 x3 x4 x5 → J x1 x2 x3 x4 x5) → body J) : Jq5 rest body := h2 rest h1

def lq6 (body : Int → Int → Int → Int → Int → Int → (Int → Int → Int → Int → Int → Int → Prop) → Prop) : Nat → Int → Int → Int → Int → Int → Int → Prop
  | 0 => fun _ _ _ _ _ _ => False
  | k + 1 => fun x1 x2 x3 x4 x5 x6 => body x1 x2 x3 x4 x5 x6 (lq6 body k)
def Lq6 (body : Int → Int → Int → Int → Int → Int → (Int → Int → Int → Int → Int → Int → Prop) → Prop) (x1 x2 x3 x4 x5 x6 : Int) : Prop := ∃ k, lq6 body k x1 x2 x3 x4 x5 x6
theorem Lq6.walk {body : Int → Int → Int → Int → Int → Int → (Int → Int → Int → Int → Int → Int → Prop) → Prop} {P : Int → Int → Int → Int → Int → Int → Prop} (h : ∀ (x1 x2 x3 x4 x5 x6 : Int) (again : Int → Int → Int → Int → Int → Int → Prop), (∀ (y1 y2 y3 y4 y5 y6 : Int), again y1 y2 y3 y4 y5 y6 → P y1 y2 y3 y4 y5 y6) → body x1 x2 x3 x4 x5 x6 again → P x1 x2 x3 x4 x5 x6) {x1 x2 x3 x4 x5 x6 : Int} : Lq6 body x1 x2 x3 x4 x5 x6 → P x1 x2 x3 x4 x5 x6 := by
  rintro ⟨k, hk⟩
  have key : ∀ k (x1 x2 x3 x4 x5 x6 : Int), lq6 body k x1 x2 x3 x4 x5 x6 → P x1 x2 x3 x4 x5 x6 := by
    intro k
    induction k with
    | zero => intro x1 x2 x3 x4 x5 x6 h0; exact h0.elim
    | succ k ih => intro x1 x2 x3 x4 x5 x6 h0; exact h x1 x2 x3 x4 x5 x6 (lq6 body k) (fun y1 y2 y3 y4 y5 y6 h1 => ih y1 y2 y3 y4 y5 y6 h1) h0
  exact key k x1 x2 x3 x4 x5 x6 hk
theorem Lq6.mk {body : Int → Int → Int → Int → Int → Int → (Int → Int → Int → Int → Int → Int → Prop) → Prop} (I : Int → Int → Int → Int → Int → Int → Prop) (μ : Int → Int → Int → Int → Int → Int → Nat) (hs : ∀ (x1 x2 x3 x4 x5 x6 : Int) (again : Int → Int → Int → Int → Int → Int → Prop), I x1 x2 x3 x4 x5 x6 → (∀ (y1 y2 y3 y4 y5 y6 : Int), I y1 y2 y3 y4 y5 y6 → μ y1 y2 y3 y4 y5 y6 < μ x1 x2 x3 x4 x5 x6 → again y1 y2 y3 y4 y5 y6) → body x1 x2 x3 x4 x5 x6 again) {x1 x2 x3 x4 x5 x6 : Int} (h0 : I x1 x2 x3 x4 x5 x6) : Lq6 body x1 x2 x3 x4 x5 x6 := by
  have key : ∀ k (x1 x2 x3 x4 x5 x6 : Int), μ x1 x2 x3 x4 x5 x6 < k → I x1 x2 x3 x4 x5 x6 → lq6 body k x1 x2 x3 x4 x5 x6 := by
    intro k
    induction k with
    | zero => intro x1 x2 x3 x4 x5 x6 h1; exact absurd h1 (Nat.not_lt_zero _)
    | succ k ih => intro x1 x2 x3 x4 x5 x6 h1 h2; exact hs x1 x2 x3 x4 x5 x6 (lq6 body k) h2 (fun y1 y2 y3 y4 y5 y6 h3 h4 => ih y1 y2 y3 y4 y5 y6 (by omega) h3)
  exact ⟨_, key _ x1 x2 x3 x4 x5 x6 (Nat.lt_succ_self _) h0⟩
def Jq6 (rest : Int → Int → Int → Int → Int → Int → Prop) (body : (Int → Int → Int → Int → Int → Int → Prop) → Prop) : Prop := body rest
theorem Jq6.walk {rest : Int → Int → Int → Int → Int → Int → Prop} {body : (Int → Int → Int → Int → Int → Int → Prop) → Prop} {Goal : Prop} (P : Int → Int → Int → Int → Int → Int → Prop) (h : Jq6 rest body) (h1 : ∀ (x1 x2 x3 x4 x5 x6 : Int), rest x1 x2 x3 x4 x5 x6 → P x1 x2 x3 x4 x5 x6) (h2 : ∀ J : Int → Int → Int → Int → Int → Int → Prop, (∀ (x1 x2 x3 x4 x5 x6 : Int), J x1 x2 x3 x4 x5 x6 → P x1 x2 x3 x4 x5 x6) → body J → Goal) : Goal := h2 rest h1 h
theorem Jq6.mk {rest : Int → Int → Int → Int → Int → Int → Prop} {body : (Int → Int → Int → Int → Int → Int → Prop) → Prop} (R : Int → Int → Int → Int → Int → Int → Prop) (h1 : ∀ (x1 x2 x3 x4 x5 x6 : Int), R x1 x2 x3 x4 x5 x6 → rest x1 x2 x3 x4 x5 x6) (h2 : ∀ J : Int → Int → Int → Int → Int → Int → Prop, (∀ (x1 x2 x3 x4 x5 x6 : Int), R x1 x2 x3 x4 x5 x6 → J x1 x2 x3 x4 x5 x6) → body J) : Jq6 rest body := h2 rest h1

def lq7 (body : Int → Int → Int → Int → Int → Int → Int → (Int → Int → Int → Int → Int → Int → Int → Prop) → Prop) : Nat → Int → Int → Int → Int → Int → Int → Int → Prop
  | 0 => fun _ _ _ _ _ _ _ => False
  | k + 1 => fun x1 x2 x3 x4 x5 x6 x7 => body x1 x2 x3 x4 x5 x6 x7 (lq7 body k)
def Lq7 (body : Int → Int → Int → Int → Int → Int → Int → (Int → Int → Int → Int → Int → Int → Int → Prop) → Prop) (x1 x2 x3 x4 x5 x6 x7 : Int) : Prop := ∃ k, lq7 body k x1 x2 x3 x4 x5 x6 x7
theorem Lq7.walk {body : Int → Int → Int → Int → Int → Int → Int → (Int → Int → Int → Int → Int → Int → Int → Prop) → Prop} {P : Int → Int → Int → Int → Int → Int → Int → Prop} (h : ∀ (x1 x2 x3 x4 x5 x6 x7 : Int) (again : Int → Int → Int → Int → Int → Int → Int → Prop), (∀ (y1 y2 y3 y4 y5 y6 y7 : Int), again y1 y2 y3 y4 y5 y6 y7 → P y1 y2 y3 y4 y5 y6 y7) → body x1 x2 x3 x4 x5 x6 x7 again → P x1 x2 x3 x4 x5 x6 x7) {x1 x2 x3 x4 x5 x6 x7 : Int} : Lq7 body x1 x2 x3 x4 x5 x6 x7 → P x1 x2 x3 x4 x5 x6 x7 := by
  rintro ⟨k, hk⟩
  have key : ∀ k (x1 x2 x3 x4 x5 x6 x7 : Int), lq7 body k x1 x2 x3 x4 x5 x6 x7 → P x1 x2 x3 x4 x5 x6 x7 := by
    intro k
    induction k with
    | zero => intro x1 x2 x3 x4 x5 x6 x7 h0; exact h0.elim
    | succ k ih => intro x1 x2 x3 x4 x5 x6 x7 h0; exact h x1 x2 x3 x4 x5 x6 x7 (lq7 body k) (fun y1 y2 y3 y4 y5 y6 y7 h1 => ih y1 y2 y3 y4 y5 y6 y7 h1) h0
  exact key k x1 x2 x3 x4 x5 x6 x7 hk
theorem Lq7.mk {body : Int → Int → Int → Int → Int → Int → Int → (Int → Int → Int → Int → Int → Int → Int → Prop) → Prop} (I : Int → Int → Int → Int → Int → Int → Int → Prop) (μ : Int → Int → Int → Int → Int → Int → Int → Nat) (hs : ∀ (x1 x2 x3 x4 x5 x6 x7 : Int) (again : Int → Int → Int → Int → Int → Int → Int → Prop), I x1 x2 x3 x4 x5 x6 x7 → (∀ (y1 y2 y3 y4 y5 y6 y7 : Int), I y1 y2 y3 y4 y5 y6 y7 → μ y1 y2 y3 y4 y5 y6 y7 < μ x1 x2 x3 x4 x5 x6 x7 → again y1 y2 y3 y4 y5 y6 y7) → body x1 x2 x3 x4 x5 x6 x7 again) {x1 x2 x3 x4 x5 x6 x7 : Int} (h0 : I x1 x2 x3 x4 x5 x6 x7) : Lq7 body x1 x2 x3 x4 x5 x6 x7 := by
  have key : ∀ k (x1 x2 x3 x4 x5 x6 x7 : Int), μ x1 x2 x3 x4 x5 x6 x7 < k → I x1 x2 x3 x4 x5 x6 x7 → lq7 body k x1 x2 x3 x4 x5 x6 x7 := by
    intro k
    induction k with
    | zero => intro x1 x2 x3 x4 x5 x6 x7 h1; exact absurd h1 (Nat.not_lt_zero _)
    | succ k ih => intro x1 x2 x3 x4 x5 x6 x7 h1 h2; exact hs x1 x2 x3 x4 x5 x6 x7 (lq7 body k) h2 (fun y1 y2 y3 y4 y5 y6 y7 h3 h4 => ih y1 y2 y3 y4 y5 y6 y7 (by omega) h3)
  exact ⟨_, key _ x1 x2 x3 x4 x5 x6 x7 (Nat.lt_succ_self _) h0⟩
def Jq7 (rest : Int → Int → Int → Int → Int → Int → Int → Prop) (body : (Int → Int → Int → Int → Int → Int → Int → Prop) → Prop) : Prop := body rest
theorem Jq7.walk {rest : Int → Int → Int → Int → Int → Int → Int → Prop} {body : (Int → Int → Int → Int → Int → Int → Int → Prop) → Prop} {Goal : Prop} (P : Int → Int → Int → Int → Int → Int → Int → Prop) (h : Jq7 rest body) (h1 : ∀ (x1 x2 x3 x4 x5 x6 x7 : Int), rest x1 x2 x3 x4 x5 x6 x7 → P x1 x2 x3 x4 x5 x6 x7) (h2 : ∀ J : Int → Int → Int → Int → Int → Int → Int → Prop, (∀ (x1 x2 x3 x4 x5 x6 x7 : Int), J x1 x2 x3 x4 x5 x6 x7 → P x1 x2 x3 x4 x5 x6 x7) → body J → Goal) : Goal := h2 rest h1 h
theorem Jq7.mk {rest : Int → Int → Int → Int → Int → Int → Int → Prop} {body : (Int → Int → Int → Int → Int → Int → Int → Prop) → Prop} (R : Int → Int → Int → Int → Int → Int → Int → Prop) (h1 : ∀ (x1 x2 x3 x4 x5 x6 x7 : Int), R x1 x2 x3 x4 x5 x6 x7 → rest x1 x2 x3 x4 x5 x6 x7) (h2 : ∀ J : Int → Int → Int → Int → Int → Int → Int → Prop, (∀ (x1 x2 x3 x4 x5 x6 x7 : Int), R x1 x2 x3 x4 x5 x6 x7 → J x1 x2 x3 x4 x5 x6 x7) → body J) : Jq7 rest body := h2 rest h1

def lq8 (body : Int → Int → Int → Int → Int → Int → Int → Int → (Int → Int → Int → Int → Int → Int → Int → Int → Prop) → Prop) : Nat → Int → Int → Int → Int → Int → Int → Int → Int → Prop
  | 0 => fun _ _ _ _ _ _ _ _ => False
  | k + 1 => fun x1 x2 x3 x4 x5 x6 x7 x8 => body x1 x2 x3 x4 x5 x6 x7 x8 (lq8 body k)
def Lq8 (body : Int → Int → Int → Int → Int → Int → Int → Int → (Int → Int → Int → Int → Int → Int → Int → Int → Prop) → Prop) (x1 x2 x3 x4 x5 x6 x7 x8 : Int) : Prop := ∃ k, lq8 body k x1 x2 x3 x4 x5 x6 x7 x8
theorem Lq8.walk {body : Int → Int → Int → Int → Int → Int → Int → Int → (Int → Int → Int → Int → Int → Int → Int → Int → Prop) → Prop} {P : Int → Int → Int → Int → Int → Int → Int → Int → Prop} (h : ∀ (x1 x2 x3 x4 x5 x6 x7 x8 : Int) (again : Int → Int → Int → Int → Int → Int → Int → Int → Prop), (∀ (y1 y2 y3 y4 y5 y6 y7 y8 : Int), again y1 y2 y3 y4 y5 y6 y7 y8 → P y1 y2 y3 y4 y5 y6 y7 y8) → body x1 x2 x3 x4 x5 x6 x7 x8 again → P x1 x2 x3 x4 x5 x6 x7 x8) {x1 x2 x3 x4 x5 x6 x7 x8 : Int} : Lq8 body x1 x2 x3 x4 x5 x6 x7 x8 → P x1 x2 x3 x4 x5 x6 x7 x8 := by
  rintro ⟨k, hk⟩
  have key : ∀ k (x1 x2 x3 x4 x5 x6 x7 x8 : Int), lq8 body k x1 x2 x3 x4 x5 x6 x7 x8 → P x1 x2 x3 x4 x5 x6 x7 x8 := by
    intro k
    induction k with
    | zero => intro x1 x2 x3 x4 x5 x6 x7 x8 h0; exact h0.elim
    | succ k ih => intro x1 x2 x3 x4 x5 x6 x7 x8 h0; exact h x1 x2 x3 x4 x5 x6 x7 x8 (lq8 body k) (fun y1 y2 y3 y4 y5 y6 y7 y8 h1 => ih y1 y2 y3 y4 y5 y6 y7 y8 h1) h0
  exact key k x1 x2 x3 x4 x5 x6 x7 x8 hk
theorem Lq8.mk {body : Int → Int → Int → Int → Int → Int → Int → Int → (Int → Int → Int → Int → Int → Int → Int → Int → Prop) → Prop} (I : Int → Int → Int → Int → Int → Int → Int → Int → Prop) (μ : Int → Int → Int → Int → Int → Int → Int → Int → Nat) (hs : ∀ (x1 x2 x3 x4 x5 x6 x7 x8 : Int) (again : Int → Int → Int → Int → Int → Int → Int → Int → Prop), I x1 x2 x3 x4 x5 x6 x7 x8 → (∀ (y1 y2 y3 y4 y5 y6 y7 y8 : Int), I y1 y2 y3 y4 y5 y6 y7 y8 → μ y1 y2 y3 y4 y5 y6 y7 y8 < μ x1 x2 x3 x4 x5 x6 x7 x8 → again y1 y2 y3 y4 y5 y6 y7 y8) → body x1 x2 x3 x4 x5 x6 x7 x8 again) {x1 x2 x3 x4 x5 x6 x7 x8 : Int} (h0 : I x1 x2 x3 x4 x5 x6 x7 x8) : Lq8 body x1 x2 x3 x4 x5 x6 x7 x8 := by
  have key : ∀ k (x1 x2 x3 x4 x5 x6 x7 x8 : Int), μ x1 x2 x3 x4 x5 x6 x7 x8 < k → I x1 x2 x3 x4 x5 x6 x7 x8 → lq8 body k x1 x2 x3 x4 x5 x6 x7 x8 := by
    intro k
    induction k with
    | zero => intro x1 x2 x3 x4 x5 x6 x7 x8 h1; exact absurd h1 (Nat.not_lt_zero _)
    | succ k ih => intro x1 x2 x3 x4 x5 x6 x7 x8 h1 h2; exact hs x1 x2 x3 x4 x5 x6 x7 x8 (lq8 body k) h2 (fun y1 y2 y3 y4 y5 y6 y7 y8 h3 h4 => ih y1 y2 y3 y4 y5 y6 y7 y8 (by omega) h3)
  exact ⟨_, key _ x1 x2 x3 x4 x5 x6 x7 x8 (Nat.lt_succ_self _) h0⟩
def Jq8 (rest : Int → Int → Int → Int → Int → Int → Int → Int → Prop) (body : (Int → Int → Int → Int → Int → Int → Int → Int → Prop) → Prop) : Prop := body rest
theorem Jq8.walk {rest : Int → Int → Int → Int → Int → Int → Int → Int → Prop} {body : (Int → Int → Int → Int → Int → Int → Int → Int → Prop) → Prop} {Goal : Prop} (P : Int → Int → Int → Int → Int → Int → Int → Int → Prop) (h : Jq8 rest body) (h1 : ∀ (x1 x2 x3 x4 x5 x6 x7 x8 : Int), rest x1 x2 x3 x4 x5 x6 x7 x8 → P x1 x2 x3 x4 x5 x6 x7 x8) (h2 : ∀ J : Int → Int → Int → Int → Int → Int → Int → Int → Prop, (∀ (x1 x2 x3 x4 x5 x6 x7 x8 : Int), J x1 x2 x3 x4 x5 x6 x7 x8 → P x1 x2 x3 x4 x5 x6 x7 x8) → body J → Goal) : Goal := h2 rest h1 h
theorem Jq8.mk {rest : Int → Int → Int → Int → Int → Int → Int → Int → Prop} {body : (Int → Int → Int → Int → Int → Int → Int → Int → Prop) → Prop} (R : Int → Int → Int → Int → Int → Int → Int → Int → Prop) (h1 : ∀ (x1 x2 x3 x4 x5 x6 x7 x8 : Int), R x1 x2 x3 x4 x5 x6 x7 x8 → rest x1 x2 x3 x4 x5 x6 x7 x8) (h2 : ∀ J : Int → Int → Int → Int → Int → Int → Int → Int → Prop, (∀ (x1 x2 x3 x4 x5 x6 x7 x8 : Int), R x1 x2 x3 x4 x5 x6 x7 x8 → J x1 x2 x3 x4 x5 x6 x7 x8) → body J) : Jq8 rest body := h2 rest h1

def lq9 (body : Int → Int → Int → Int → Int → Int → Int → Int → Int → (Int → Int → Int → Int → Int → Int → Int → Int → Int → Prop) → Prop) : Nat → Int → Int → Int → Int → Int → Int → Int → Int → Int → Prop
  | 0 => fun _ _ _ _ _ _ _ _ _ => False
  | k + 1 => fun x1 x2 x3 x4 x5 x6 x7 x8 x9 => body x1 x2 x3 x4 x5 x6 x7 x8 x9 (lq9 body k)
def Lq9 (body : Int → Int → Int → Int → Int → Int → Int → Int → Int → (Int → Int → Int → Int → Int → Int → Int → Int → Int → Prop) → Prop) (x1 x2 x3 x4 x5 x6 x7 x8 x9 : Int) : Prop := ∃ k, lq9 body k x1 x2 x3 x4 x5 x6 x7 x8 x9
theorem Lq9.walk {body : Int → Int → Int → Int → Int → Int → Int → Int → Int → (Int → Int → Int → Int → Int → Int → Int → Int → Int → Prop) → Prop} {P : Int → Int → Int → Int → Int → Int → Int → Int → Int → Prop} (h : ∀ (x1 x2 x3 x4 x5 x6 x7 x8 x9 : Int) (again : Int → Int → Int → Int → Int → Int → Int → Int → Int → Prop), (∀ (y1 y2 y3 y4 y5 y6 y7 y8 y9 : Int), again y1 y2 y3 y4 y5 y6 y7 y8 y9 → P y1 y2 y3 y4 y5 y6 y7 y8 y9) → body x1 x2 x3 x4 x5 x6 x7 x8 x9 again → P x1 x2 x3 x4 x5 x6 x7 x8 x9) {x1 x2 x3 x4 x5 x6 x7 x8 x9 : Int} : Lq9 body x1 x2 x3 x4 x5 x6 x7 x8 x9 → P x1 x2 x3 x4 x5 x6 x7 x8 x9 := by
  rintro ⟨k, hk⟩
  have key : ∀ k (x1 x2 x3 x4 x5 x6 x7 x8 x9 : Int), lq9 body k x1 x2 x3 x4 x5 x6 x7 x8 x9 → P x1 x2 x3 x4 x5 x6 x7 x8 x9 := by
    intro k
    induction k with
    | zero => intro x1 x2 x3 x4 x5 x6 x7 x8 x9 h0; exact h0.elim
    | succ k ih => intro x1 x2 x3 x4 x5 x6 x7 x8 x9 h0; exact h x1 x2 x3 x4 x5 x6 x7 x8 x9 (lq9 body k) (fun y1 y2 y3 y4 y5 y6 y7 y8 y9 h1 => ih y1 y2 y3 y4 y5 y6 y7 y8 y9 h1) h0
  exact key k x1 x2 x3 x4 x5 x6 x7 x8 x9 hk
theorem Lq9.mk {body : Int → Int → Int → Int → Int → Int → Int → Int → Int → (Int → Int → Int → Int → Int → Int → Int → Int → Int → Prop) → Prop} (I : Int → Int → Int → Int → Int → Int → Int → Int → Int → Prop) (μ : Int → Int → Int → Int → Int → Int → Int → Int → Int → Nat) (hs : ∀ (x1 x2 x3 x4 x5 x6 x7 x8 x9 : Int) (again : Int → Int → Int → Int → Int → Int → Int → Int → Int → Prop), I x1 x2 x3 x4 x5 x6 x7 x8 x9 → (∀ (y1 y2 y3 y4 y5 y6 y7 y8 y9 : Int), I y1 y2 y3 y4 y5 y6 y7 y8 y9 → μ y1 y2 y3 y4 y5 y6 y7 y8 y9 < μ x1 x2 x3 x4 x5 x6 x7 x8 x9 → again y1 y2 y3 y4 y5 y6 y7 y8 y9) → body x1 x2 x3 x4 x5 x6 x7 x8 x9 again) {x1 x2 x3 x4 x5 x6 x7 x8 x9 : Int} (h0 : I x1 x2 x3 x4 x5 x6 x7 x8 x9) : Lq9 body x1 x2 x3 x4 x5 x6 x7 x8 x9 := by
  have key : ∀ k (x1 x2 x3 x4 x5 x6 x7 x8 x9 : Int), μ x1 x2 x3 x4 x5 x6 x7 x8 x9 < k → I x1 x2 x3 x4 x5 x6 x7 x8 x9 → lq9 body k x1 x2 x3 x4 x5 x6 x7 x8 x9 := by
    intro k
    induction k with
    | zero => intro x1 x2 x3 x4 x5 x6 x7 x8 x9 h1; exact absurd h1 (Nat.not_lt_zero _)
    | succ k ih => intro x1 x2 x3 x4 x5 x6 x7 x8 x9 h1 h2; exact hs x1 x2 x3 x4 x5 x6 x7 x8 x9 (lq9 body k) h2 (fun y1 y2 y3 y4 y5 y6 y7 y8 y9 h3 h4 => ih y1 y2 y3 y4 y5 y6 y7 y8 y9 (by omega) h3)
  exact ⟨_, key _ x1 x2 x3 x4 x5 x6 x7 x8 x9 (Nat.lt_succ_self _) h0⟩
def Jq9 (rest : Int → Int → Int → Int → Int → Int → Int → Int → Int → Prop) (body : (Int → Int → Int → Int → Int → Int → Int → Int → Int → Prop) → Prop) : Prop := body rest
theorem Jq9.walk {rest : Int → Int → Int → Int → Int → Int → Int → Int → Int → Prop} {body : (Int → Int → Int → Int → Int → Int → Int → Int → Int → Prop) → Prop} {Goal : Prop} (P : Int → Int → Int → Int → Int → Int → Int → Int → Int → Prop) (h : Jq9 rest body) (h1 : ∀ (x1 x2 x3 x4 x5 x6 x7 x8 x9 : Int), rest x1 x2 x3 x4 x5 x6 x7 x8 x9 → P x1 x2 x3 x4 x5 x6 x7 x8 x9) (h2 : ∀ J : Int → Int → Int → Int → Int → Int → Int → Int → Int → Prop, (∀ (x1 x2 x3 x4 x5 x6 x7 x8 x9 : Int), J x1 x2 x3 x4 x5 x6 x7 x8 x9 → P x1 x2 x3 x4 x5 x6 x7 x8 x9) → body J → Goal) : Goal := h2 rest h1 h
theorem Jq9.mk {rest : Int → Int → Int → Int → Int → Int → Int → Int → Int → Prop} {body : (Int → Int → Int → Int → Int → Int → Int → Int → Int → Prop) → Prop} (R : Int → Int → Int → Int → Int → Int → Int → Int → Int → Prop) (h1 : ∀ (x1 x2 x3 x4 x5 x6 x7 x8 x9 : Int), R x1 x2 x3 x4 x5 x6 x7 x8 x9 → rest x1 x2 x3 x4 x5 x6 x7 x8 x9) (h2 : ∀ J : Int → Int → Int → Int → Int → Int → Int → Int → Int → Prop, (∀ (x1 x2 x3 x4 x5 x6 x7 x8 x9 : Int), R x1 x2 x3 x4 x5 x6 x7 x8 x9 → J x1 x2 x3 x4 x5 x6 x7 x8 x9) → body J) : Jq9 rest body := h2 rest h1

theorem iI_add (x y : Int) : iI x + iI y = iI (x + y) := (Int32.ofInt_add x y).symm
theorem iI_sub (x y : Int) : iI x - iI y = iI (x - y) := (Int32.ofInt_sub x y).symm
theorem iI_mul (x y : Int) : iI x * iI y = iI (x * y) := (Int32.ofInt_mul x y).symm
theorem iI_neg (x : Int) : -iI x = iI (-x) := (Int32.ofInt_neg x).symm
theorem iI_toInt {x : Int} (h : okI x) : (iI x).toInt = x := Int32.toInt_ofInt_of_le (by have := h.1; omega) (by have := h.2; omega)
theorem iI_of (z : Int32) : iI z.toInt = z := Int32.ofInt_toInt z
theorem iI_ok (z : Int32) : okI z.toInt := ⟨by have := z.le_toInt; omega, by have := z.toInt_lt; omega⟩
theorem iI_lt {x y : Int} (hx : okI x) (hy : okI y) : iI x < iI y ↔ x < y := by rw [Int32.lt_iff_toInt_lt, iI_toInt hx, iI_toInt hy]
theorem iI_le {x y : Int} (hx : okI x) (hy : okI y) : iI x ≤ iI y ↔ x ≤ y := by rw [Int32.le_iff_toInt_le, iI_toInt hx, iI_toInt hy]
theorem iI_eq {x y : Int} (hx : okI x) (hy : okI y) : iI x = iI y ↔ x = y := by rw [← Int32.toInt_inj, iI_toInt hx, iI_toInt hy]
theorem iI_bv (x : Int) : (iI x).toBitVec = BitVec.ofInt 32 x := rfl
theorem iI_nat (x : Int) : (iI x).toBitVec.toNat = (x % 4294967296).toNat := by
  rw [iI_bv, BitVec.toNat_ofInt]; rfl
theorem iI_ext {a b : Int32} (h : a.toBitVec.toNat = b.toBitVec.toNat) : a = b := Int32.toBitVec_inj.1 (BitVec.eq_of_toNat_eq h)
/-- under a mask of k ones -/
theorem iI_mask (x : Int) (k : Nat) (p : Int) (hp : p = ((2 ^ k : Nat) : Int)) (hk : k ≤ 31) : iI x &&& iI (p - 1) = iI (x % p) := by
  apply iI_ext
  have h1 : ((iI x &&& iI (p - 1)).toBitVec).toNat = (iI x).toBitVec.toNat &&& (iI (p - 1)).toBitVec.toNat := rfl
  have hpos : (0 : Nat) < 2 ^ k := Nat.two_pow_pos k
  have hle : 2 ^ k ≤ 2 ^ 31 := Nat.pow_le_pow_right (by omega) hk
  have hb : (2 ^ 31 : Nat) = 2147483648 := by decide
  have h2 : ((p - 1) % 4294967296).toNat = 2 ^ k - 1 := by
    rw [Int.emod_eq_of_lt (by omega) (by omega), hp]; omega
  rw [h1, iI_nat, iI_nat, iI_nat, h2, Nat.and_two_pow_sub_one_eq_mod]
  have hdvd : p ∣ 4294967296 := by
    rw [hp, show (4294967296 : Int) = ((2 ^ 32 : Nat) : Int) from by decide]
    exact Int.natCast_dvd_natCast.mpr (Nat.pow_dvd_pow 2 (by omega))
  have h3 : x % p % 4294967296 = x % p := Int.emod_eq_of_lt (Int.emod_nonneg _ (by omega)) (by have := Int.emod_lt_of_pos x (show 0 < p by omega); omega)
  rw [h3, ← Int.emod_emod_of_dvd x hdvd]
  have h0 : 0 ≤ x % 4294967296 := Int.emod_nonneg _ (by decide)
  rw [hp, Int.toNat_emod h0 (by omega)]; rfl

theorem lL_add (x y : Int) : lL x + lL y = lL (x + y) := (Int64.ofInt_add x y).symm
theorem lL_sub (x y : Int) : lL x - lL y = lL (x - y) := (Int64.ofInt_sub x y).symm
theorem lL_mul (x y : Int) : lL x * lL y = lL (x * y) := (Int64.ofInt_mul x y).symm
theorem lL_neg (x : Int) : -lL x = lL (-x) := (Int64.ofInt_neg x).symm
theorem lL_toInt {x : Int} (h : okL x) : (lL x).toInt = x := Int64.toInt_ofInt_of_le (by have := h.1; omega) (by have := h.2; omega)
theorem lL_of (z : Int64) : lL z.toInt = z := Int64.ofInt_toInt z
theorem lL_ok (z : Int64) : okL z.toInt := ⟨by have := z.le_toInt; omega, by have := z.toInt_lt; omega⟩
theorem lL_lt {x y : Int} (hx : okL x) (hy : okL y) : lL x < lL y ↔ x < y := by rw [Int64.lt_iff_toInt_lt, lL_toInt hx, lL_toInt hy]
theorem lL_le {x y : Int} (hx : okL x) (hy : okL y) : lL x ≤ lL y ↔ x ≤ y := by rw [Int64.le_iff_toInt_le, lL_toInt hx, lL_toInt hy]
theorem lL_eq {x y : Int} (hx : okL x) (hy : okL y) : lL x = lL y ↔ x = y := by rw [← Int64.toInt_inj, lL_toInt hx, lL_toInt hy]
theorem lL_bv (x : Int) : (lL x).toBitVec = BitVec.ofInt 64 x := rfl
theorem lL_nat (x : Int) : (lL x).toBitVec.toNat = (x % 18446744073709551616).toNat := by
  rw [lL_bv, BitVec.toNat_ofInt]; rfl
theorem lL_ext {a b : Int64} (h : a.toBitVec.toNat = b.toBitVec.toNat) : a = b := Int64.toBitVec_inj.1 (BitVec.eq_of_toNat_eq h)
/-- under a mask of k ones -/
theorem lL_mask (x : Int) (k : Nat) (p : Int) (hp : p = ((2 ^ k : Nat) : Int)) (hk : k ≤ 63) : lL x &&& lL (p - 1) = lL (x % p) := by
  apply lL_ext
  have h1 : ((lL x &&& lL (p - 1)).toBitVec).toNat = (lL x).toBitVec.toNat &&& (lL (p - 1)).toBitVec.toNat := rfl
  have hpos : (0 : Nat) < 2 ^ k := Nat.two_pow_pos k
  have hle : 2 ^ k ≤ 2 ^ 63 := Nat.pow_le_pow_right (by omega) hk
  have hb : (2 ^ 63 : Nat) = 9223372036854775808 := by decide
  have h2 : ((p - 1) % 18446744073709551616).toNat = 2 ^ k - 1 := by
    rw [Int.emod_eq_of_lt (by omega) (by omega), hp]; omega
  rw [h1, lL_nat, lL_nat, lL_nat, h2, Nat.and_two_pow_sub_one_eq_mod]
  have hdvd : p ∣ 18446744073709551616 := by
    rw [hp, show (18446744073709551616 : Int) = ((2 ^ 64 : Nat) : Int) from by decide]
    exact Int.natCast_dvd_natCast.mpr (Nat.pow_dvd_pow 2 (by omega))
  have h3 : x % p % 18446744073709551616 = x % p := Int.emod_eq_of_lt (Int.emod_nonneg _ (by omega)) (by have := Int.emod_lt_of_pos x (show 0 < p by omega); omega)
  rw [h3, ← Int.emod_emod_of_dvd x hdvd]
  have h0 : 0 ≤ x % 18446744073709551616 := Int.emod_nonneg _ (by decide)
  rw [hp, Int.toNat_emod h0 (by omega)]; rfl

theorem mxI : Int32.maxValue.toInt = 2147483647 := by decide
theorem mnI : Int32.minValue.toInt = -2147483648 := by decide
theorem mxL : Int64.maxValue.toInt = 9223372036854775807 := by decide
theorem mnL : Int64.minValue.toInt = -9223372036854775808 := by decide
theorem iI_clamp {k : Int} (h : okI k) : (iI k).toNatClampNeg = k.toNat := by
  show (iI k).toInt.toNat = k.toNat
  rw [iI_toInt h]
theorem iI_in {k : Int} {n : Nat} {N : Int} (hn : (n : Int) = N) (hN : N ≤ 2147483647) (h : 0 ≤ k ∧ k < N) : vp_in (iI k) n := by
  rw [vp_in_iff, iI_toInt ⟨by omega, by omega⟩]; omega
theorem iI_ofNat (n : Nat) : Int32.ofNat n = iI (n : Int) := Int32.ofInt_eq_ofNat.symm
theorem iI_l {x : Int} (h : okI x) : (iI x).toInt64 = lL x := Int32.toInt64_ofInt (by rw [mnI]; exact h.1) (by rw [mxI]; exact h.2)
theorem lL_i (x : Int) : (lL x).toInt32 = iI x := Int64.toInt32_ofInt
theorem iI_not (x : Int) : iI x ^^^ iI (-1) = iI (-x - 1) := by
  rw [show iI (-1) = -1 from by decide, Int32.xor_neg_one]
  rw [Int32.not_eq_neg_sub, iI_neg, show (1 : Int32) = iI 1 from by decide, iI_sub]
theorem anI_def (x y : Int) : iI x &&& iI y = iI (anI x y) := (iI_of _).symm
theorem orI_def (x y : Int) : iI x ||| iI y = iI (orI x y) := (iI_of _).symm
theorem xoI_def (x y : Int) : iI x ^^^ iI y = iI (xoI x y) := (iI_of _).symm
theorem orL_def (x y : Int) : lL x ||| lL y = lL (orL x y) := (lL_of _).symm
/-! shifts -/
theorem sh_i : ∀ n : Nat, n < 32 → ((iI n &&& 31).toBitVec.smod 32).toNat = n := by decide +kernel
theorem sh_iu : ∀ n : Nat, n < 32 → (((iI n).toUInt32 &&& Int32.toUInt32 31).toBitVec % 32).toNat = n := by decide +kernel
theorem sh_l : ∀ n : Nat, n < 64 → (((iI n).toInt64 &&& 63).toBitVec.smod 64).toNat = n := by decide +kernel
theorem sh_lu : ∀ n : Nat, n < 64 → ((iI n).toInt64.toUInt64 &&& Int64.toUInt64 63).toNat % 64 = n := by decide +kernel
theorem iI_shl (x : Int) {s : Int} (h : 0 ≤ s ∧ s < 32) : iI x <<< (iI s &&& 31) = iI (x * 2 ^ s.toNat) := by
  obtain ⟨n, rfl⟩ : ∃ n : Nat, s = n := ⟨s.toNat, by omega⟩
  apply iI_ext
  rw [pk_shl _ _ n (sh_i n (by omega)), iI_nat, iI_nat]
  simp only [Int.toNat_natCast]
  have h0 : 0 ≤ x % 4294967296 := Int.emod_nonneg _ (by decide)
  apply Int.ofNat_inj.mp
  rw [Int.natCast_emod, Int.natCast_mul, Int.toNat_of_nonneg h0, Int.toNat_of_nonneg (Int.emod_nonneg _ (by decide))]
  rw [show ((2 ^ 32 : Nat) : Int) = 4294967296 from by decide, Int.natCast_pow]
  rw [Int.mul_emod, Int.emod_emod_of_dvd _ (Int.dvd_refl _), ← Int.mul_emod]; rfl
theorem iI_shr {x s : Int} (hx : okI x) (h : 0 ≤ s ∧ s < 32) : iI x >>> (iI s &&& 31) = iI (x / 2 ^ s.toNat) := by
  obtain ⟨n, rfl⟩ : ∃ n : Nat, s = n := ⟨s.toNat, by omega⟩
  apply Int32.toInt_inj.mp
  simp only [Int.toNat_natCast]
  have hp : (0 : Int) < 2 ^ n := Int.pow_pos (by decide)
  have h1 : okI (x / 2 ^ n) := by
    obtain ⟨h1, h2⟩ := hx
    constructor
    · rw [Int.le_ediv_iff_mul_le hp]
      have : (1 : Int) ≤ 2 ^ n := hp
      have := Int.mul_le_mul_of_nonneg_left this (show (0 : Int) ≤ 2147483648 by decide)
      omega
    · have : x / 2 ^ n < 2147483648 := by
        rw [Int.ediv_lt_iff_lt_mul hp]
        have : (1 : Int) ≤ 2 ^ n := hp
        have := Int.mul_le_mul_of_nonneg_left this (show (0 : Int) ≤ 2147483648 by decide)
        omega
      omega
  rw [pk_shr _ _ n (sh_i n (by omega)), iI_toInt hx, iI_toInt h1, Int.shiftRight_eq_div_pow]
  simp
theorem iI_ushr {x s : Int} (hx : 0 ≤ x ∧ x ≤ 2147483647) (h : 0 ≤ s ∧ s < 32) : ((iI x).toUInt32 >>> ((iI s).toUInt32 &&& Int32.toUInt32 31)).toInt32 = iI (x / 2 ^ s.toNat) := by
  obtain ⟨n, rfl⟩ : ∃ n : Nat, s = n := ⟨s.toNat, by omega⟩
  obtain ⟨y, rfl⟩ : ∃ y : Nat, x = y := ⟨x.toNat, by omega⟩
  apply iI_ext
  rw [pk_ushr _ _ n (sh_iu n (by omega)), iI_nat, iI_nat]
  simp only [Int.toNat_natCast]
  rw [Int.emod_eq_of_lt (by omega) (by omega)]
  have e : ((y : Int) / 2 ^ n) = ((y / 2 ^ n : Nat) : Int) := by rw [Int.natCast_ediv, Int.natCast_pow]; rfl
  have hle : y / 2 ^ n ≤ y := Nat.div_le_self _ _
  rw [e]
  simp only [Int.toNat_natCast]
  generalize y / 2 ^ n = z at hle ⊢
  rw [Int.emod_eq_of_lt (by omega) (by omega)]; simp
theorem lL_shl (x : Int) {s : Int} (h : 0 ≤ s ∧ s < 64) : lL x <<< ((iI s).toInt64 &&& 63) = lL (x * 2 ^ s.toNat) := by
  obtain ⟨n, rfl⟩ : ∃ n : Nat, s = n := ⟨s.toNat, by omega⟩
  apply lL_ext
  have e1 : (lL x <<< ((iI n).toInt64 &&& 63)).toBitVec.toNat = (lL x).toBitVec.toNat * 2 ^ n % 2 ^ 64 := by
    show ((lL x).toBitVec <<< (((iI n).toInt64 &&& 63).toBitVec.smod 64)).toNat = _
    rw [BitVec.shiftLeft_eq', BitVec.toNat_shiftLeft, sh_l n (by omega), Nat.shiftLeft_eq]
  rw [e1, lL_nat, lL_nat]
  simp only [Int.toNat_natCast]
  have h0 : 0 ≤ x % 18446744073709551616 := Int.emod_nonneg _ (by decide)
  apply Int.ofNat_inj.mp
  rw [Int.natCast_emod, Int.natCast_mul, Int.toNat_of_nonneg h0, Int.toNat_of_nonneg (Int.emod_nonneg _ (by decide))]
  rw [show ((2 ^ 64 : Nat) : Int) = 18446744073709551616 from by decide, Int.natCast_pow]
  rw [Int.mul_emod, Int.emod_emod_of_dvd _ (Int.dvd_refl _), ← Int.mul_emod]; rfl
theorem lL_shr {x s : Int} (hx : okL x) (h : 0 ≤ s ∧ s < 64) : lL x >>> ((iI s).toInt64 &&& 63) = lL (x / 2 ^ s.toNat) := by
  obtain ⟨n, rfl⟩ : ∃ n : Nat, s = n := ⟨s.toNat, by omega⟩
  apply Int64.toInt_inj.mp
  simp only [Int.toNat_natCast]
  have hp : (0 : Int) < 2 ^ n := Int.pow_pos (by decide)
  have h1 : okL (x / 2 ^ n) := by
    obtain ⟨h1, h2⟩ := hx
    constructor
    · rw [Int.le_ediv_iff_mul_le hp]
      have : (1 : Int) ≤ 2 ^ n := hp
      have := Int.mul_le_mul_of_nonneg_left this (show (0 : Int) ≤ 9223372036854775808 by decide)
      omega
    · have : x / 2 ^ n < 9223372036854775808 := by
        rw [Int.ediv_lt_iff_lt_mul hp]
        have : (1 : Int) ≤ 2 ^ n := hp
        have := Int.mul_le_mul_of_nonneg_left this (show (0 : Int) ≤ 9223372036854775808 by decide)
        omega
      omega
  have e1 : (lL x >>> ((iI n).toInt64 &&& 63)).toInt = (lL x).toInt >>> n := by
    show ((lL x).toBitVec.sshiftRight' (((iI n).toInt64 &&& 63).toBitVec.smod 64)).toInt = _
    rw [BitVec.sshiftRight', BitVec.toInt_sshiftRight, sh_l n (by omega)]; rfl
  rw [e1, lL_toInt hx, lL_toInt h1, Int.shiftRight_eq_div_pow]
  simp
theorem lL_ushr (x : Int) {s : Int} (h : 0 ≤ s ∧ s < 64) : ((lL x).toUInt64 >>> ((iI s).toInt64.toUInt64 &&& Int64.toUInt64 63)).toInt64 = lL (x % 18446744073709551616 / 2 ^ s.toNat) := by
  obtain ⟨n, rfl⟩ : ∃ n : Nat, s = n := ⟨s.toNat, by omega⟩
  apply lL_ext
  have e1 : (((lL x).toUInt64 >>> ((iI n).toInt64.toUInt64 &&& Int64.toUInt64 63)).toInt64).toBitVec.toNat = (lL x).toBitVec.toNat / 2 ^ n := by
    show ((lL x).toUInt64 >>> ((iI n).toInt64.toUInt64 &&& Int64.toUInt64 63)).toNat = _
    rw [UInt64.toNat_shiftRight, sh_lu n (by omega), Nat.shiftRight_eq_div_pow]; rfl
  rw [e1, lL_nat, lL_nat]
  simp only [Int.toNat_natCast]
  have h0 : 0 ≤ x % 18446744073709551616 := Int.emod_nonneg _ (by decide)
  have h9 : x % 18446744073709551616 < 18446744073709551616 := Int.emod_lt_of_pos _ (by decide)
  generalize x % 18446744073709551616 = y at h0 h9
  obtain ⟨y, rfl⟩ : ∃ z : Nat, y = z := ⟨y.toNat, by omega⟩
  have e : ((y : Int) / 2 ^ n) = ((y / 2 ^ n : Nat) : Int) := by rw [Int.natCast_ediv, Int.natCast_pow]; rfl
  have hle : y / 2 ^ n ≤ y := Nat.div_le_self _ _
  rw [e]
  simp only [Int.toNat_natCast]
  generalize y / 2 ^ n = z at hle ⊢
  rw [Int.emod_eq_of_lt (by omega) (by omega)]; simp
/-! division of what isn't negative -/
theorem iI_div {x y : Int} (hx : 0 ≤ x ∧ x ≤ 2147483647) (hy : 0 < y ∧ y ≤ 2147483647) : iI x / iI y = iI (x / y) := by
  rw [← Int.tdiv_eq_ediv_of_nonneg hx.1]
  exact (Int32.ofInt_tdiv (by rw [mnI]; omega) (by rw [mxI]; omega) (by rw [mnI]; omega) (by rw [mxI]; omega)).symm
theorem lL_div {x y : Int} (hx : 0 ≤ x ∧ x ≤ 9223372036854775807) (hy : 0 < y ∧ y ≤ 9223372036854775807) : lL x / lL y = lL (x / y) := by
  rw [← Int.tdiv_eq_ediv_of_nonneg hx.1]
  exact (Int64.ofInt_tdiv (by rw [mnL]; omega) (by rw [mxL]; omega) (by rw [mnL]; omega) (by rw [mxL]; omega)).symm
theorem iI_rem {x y : Int} (hx : 0 ≤ x ∧ x ≤ 2147483647) (hy : 0 < y ∧ y ≤ 2147483647) : iI x - iI x / iI y * iI y = iI (x % y) := by
  rw [iI_div hx hy, iI_mul, iI_sub, Int.emod_def, Int.mul_comm]
theorem lL_rem {x y : Int} (hx : 0 ≤ x ∧ x ≤ 9223372036854775807) (hy : 0 < y ∧ y ≤ 9223372036854775807) : lL x - lL x / lL y * lL y = lL (x % y) := by
  rw [lL_div hx hy, lL_mul, lL_sub, Int.emod_def, Int.mul_comm]
theorem okI.L {x : Int} (h : okI x) : okL x := ⟨by have := h.1; omega, by have := h.2; omega⟩
theorem okI_mod {x p : Int} (h : 0 < p) (h2 : p ≤ 2147483648) : okI (x % p) := ⟨by have := Int.emod_nonneg x (show p ≠ 0 by omega); omega, by have := Int.emod_lt_of_pos x h; omega⟩
theorem okL_mod {x p : Int} (h : 0 < p) (h2 : p ≤ 9223372036854775808) : okL (x % p) := ⟨by have := Int.emod_nonneg x (show p ≠ 0 by omega); omega, by have := Int.emod_lt_of_pos x h; omega⟩
theorem okI_in {x N : Int} (h : 0 ≤ x ∧ x < N) (hN : N ≤ 9000) : okI x := ⟨by omega, by omega⟩
theorem okI_an (x y : Int) : okI (anI x y) := iI_ok _
theorem okI_or (x y : Int) : okI (orI x y) := iI_ok _
theorem okI_xo (x y : Int) : okI (xoI x y) := iI_ok _
theorem okL_or (x y : Int) : okL (orL x y) := lL_ok _
/-- enough to be compared with 0 -/
def okE (x : Int) : Prop := -18446744073709551616 < x ∧ x < 18446744073709551616
theorem lL_z {x : Int} (h : okE x) : lL x = lL 0 ↔ x = 0 := by
  constructor
  · intro q
    have h1 := congrArg (fun z : Int64 => z.toBitVec.toNat) q
    simp only [lL_nat] at h1
    obtain ⟨h2, h3⟩ := h
    omega
  · rintro rfl; rfl
theorem okI_lit {x : Int} (h : decide (-2147483648 ≤ x ∧ x ≤ 2147483647) = true) : okI x := by unfold okI; exact of_decide_eq_true h
theorem okL_lit {x : Int} (h : decide (-9223372036854775808 ≤ x ∧ x ≤ 9223372036854775807) = true) : okL x := by unfold okL; exact of_decide_eq_true h
/-! bytes -/
theorem iI_b (x : Int) : (iI x).toInt8.toInt32 = iI (x.bmod 256) := by
  apply Int32.toInt_inj.mp
  have h1 : -128 ≤ x.bmod 256 := Int.le_bmod (by decide)
  have h2 : x.bmod 256 < 128 := Int.bmod_lt (by decide)
  rw [iI_toInt ⟨by omega, by omega⟩, Int8.toInt_toInt32, Int32.toInt_toInt8]
  show ((Int32.ofInt x).toInt.bmod (2 ^ 8)) = _
  rw [Int32.toInt_ofInt]
  exact Int.bmod_bmod_of_dvd (by decide)

