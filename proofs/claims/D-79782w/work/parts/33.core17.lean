/-! CORE 17: the words in which the component's predicates speak (each an existential over the heap of level 1) -/
set_option maxRecDepth 100000
/-- a field read: an int, a reference, a reference that may be null -/
def eI (h : qc_H) (a ci k : Nat) (K : Int32 → Prop) : Prop := ∃ (fs : List Value) (v : Int32), h a = some (.inl (.inr (ci, fs))) ∧ fs[k]? = some (.int v) ∧ K v
def eR (h : qc_H) (a ci k : Nat) (K : Nat → Prop) : Prop := ∃ (fs : List Value) (v : Nat), h a = some (.inl (.inr (ci, fs))) ∧ fs[k]? = some (.ref v) ∧ K v
def eO (h : qc_H) (a ci k : Nat) (K : Option Nat → Prop) : Prop := ∃ (fs : List Value) (v : Option Nat), h a = some (.inl (.inr (ci, fs))) ∧ fs[k]? = some (va_rf v) ∧ K v
/-- a field written -/
def eP (h : qc_H) (a ci k : Nat) (v : Value) (K : qc_H → Prop) : Prop := ∃ fs : List Value, h a = some (.inl (.inr (ci, fs))) ∧ k < fs.length ∧ K (qc_up h a (.inl (.inr (ci, fs.set k v))))
/-- a new object of N fields -/
def eN (h : qc_H) (c ci N : Nat) (fs : List Value) (K : Nat → qc_H → Nat → Prop) : Prop := ∃ c' : Nat, c = c' + (N + 1) ∧ ∀ a : Nat, h a = none → K a (qc_up h a (.inl (.inr (ci, fs)))) c'
/-- a receiver of a class -/
def eC (h : qc_H) (a ci : Nat) (K : Prop) : Prop := (∃ fs : List Value, h a = some (.inl (.inr (ci, fs)))) ∧ K
/-- a list -/
def eL (h : qc_H) (p : Nat) (K : List Nat → Prop) : Prop := ∃ xs : List Nat, h p = some (.inr xs) ∧ xs.length < 65535 ∧ K xs
/-- a list read at i -/
def eG (h : qc_H) (p : Nat) (i : Int32) (K : Nat → Prop) : Prop := ∃ (xs : List Nat) (j y : Nat), h p = some (.inr xs) ∧ xs.length < 65535 ∧ i = nI j ∧ xs[j]? = some y ∧ K y
/-- the number of a box -/
def eB (h : qc_H) (y : Nat) (K : Int32 → Prop) : Prop := ∃ v : Int32, h y = some (.inl (.inr (17, [.int v]))) ∧ K v
/-- a call: k of the credits c are the callee's -/
def eK (c : Nat) (K : Nat → Nat → Prop) : Prop := ∃ c' k : Nat, c = c' + k ∧ K c' k
/-- int arrays (cA: the arrays' classes): read, written -/
def eA (cA : Nat → ClassId) (h : qc_H) (a : Nat) (i : Int32) (K : Int32 → Prop) : Prop := ∃ (n : Nat) (f : Nat → Int32), h a = some (.inl (.inl (cA 0, n, .inl f))) ∧ vp_in i n ∧ K (f i.toNatClampNeg)
def eW (cA : Nat → ClassId) (h : qc_H) (a : Nat) (i v : Int32) (K : qc_H → Prop) : Prop := ∃ (n : Nat) (f : Nat → Int32), h a = some (.inl (.inl (cA 0, n, .inl f))) ∧ vp_in i n ∧ K (qc_up h a (.inl (.inl (cA 0, n, .inl (upd f i.toNatClampNeg v)))))
/-- arrays of references of the type t0: read (never null here), written, their length -/
def eQ (cA : Nat → ClassId) (t0 : Nat) (h : qc_H) (a : Nat) (i : Int32) (K : Nat → Prop) : Prop := ∃ (n : Nat) (f : Nat → Option Nat) (y : Nat), h a = some (.inl (.inl (cA t0, n, .inr (.inr (.inr (.inr f)))))) ∧ vp_in i n ∧ f i.toNatClampNeg = some y ∧ K y
def eV (cA : Nat → ClassId) (t0 ci : Nat) (h : qc_H) (a : Nat) (i : Int32) (v : Nat) (K : qc_H → Prop) : Prop := ∃ (n : Nat) (f : Nat → Option Nat) (vs : List Value), h a = some (.inl (.inl (cA t0, n, .inr (.inr (.inr (.inr f)))))) ∧ h v = some (.inl (.inr (ci, vs))) ∧ vp_in i n ∧ K (qc_up h a (.inl (.inl (cA t0, n, .inr (.inr (.inr (.inr (va_up f i.toNatClampNeg (some v)))))))))
def eT (cA : Nat → ClassId) (t0 : Nat) (h : qc_H) (a : Nat) (K : Int32 → Prop) : Prop := ∃ y : vp_A, h a = some (.inl (.inl (cA t0, y))) ∧ K (Int32.ofNat y.1)
