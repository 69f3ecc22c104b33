/-! CORE 20: a rule for each word of the component's predicates -/
set_option maxRecDepth 100000
/-- ends of a method -/
def oI (K : Int32 → qc_H → Prop) : qh_R → qc_H → Prop := fun r t => ∃ v, r = .inl (some (.int v)) ∧ K v t
def oZ (K : Int32 → qc_H → Prop) : qh_R → qc_H → Prop := fun r t => ∃ v, r = .inl (some (.int v)) ∧ (v = 0 ∨ v = 1) ∧ K v t
def oR (K : Nat → qc_H → Prop) : qh_R → qc_H → Prop := fun r t => ∃ v, r = .inl (some (.ref v)) ∧ K v t
def oO (K : Option Nat → qc_H → Prop) : qh_R → qc_H → Prop := fun r t => ∃ v, r = .inl (some (va_rf v)) ∧ K v t
def oV (K : qc_H → Prop) : qh_R → qc_H → Prop := fun r t => r = .inl none ∧ K t
def oX (P : qh_R → qc_H → Prop) (KX : String → qc_H → Prop) : qh_R → qc_H → Prop := fun r t => P r t ∨ ∃ E, r = .inr E ∧ KX E t
/-- more words: lists -/
def eSz (h : qc_H) (p : Nat) (K : Int32 → Prop) : Prop := ∃ xs : List Nat, h p = some (.inr xs) ∧ xs.length ≤ 40000 ∧ K (nI xs.length)
def eEm (h : qc_H) (p : Nat) (K : Int32 → Prop) : Prop := ∃ xs : List Nat, h p = some (.inr xs) ∧ xs.length ≤ 40000 ∧ K (if xs.length = 0 then 1 else 0)
def eGt (h : qc_H) (p : Nat) (i : Int32) (K : Nat → Prop) : Prop := ∃ (xs : List Nat) (j y : Nat), h p = some (.inr xs) ∧ xs.length ≤ 40000 ∧ i = nI j ∧ xs[j]? = some y ∧ K y
def eAd (g : qh_G) (h : qc_H) (p y c : Nat) (K : qc_H → Nat → Prop) : Prop := ∃ (xs : List Nat) (e1 : qc_E) (c' : Nat), h p = some (.inr xs) ∧ xs.length ≤ 40000 ∧ h y = some e1 ∧ qc_ok g e1 ∧ c = c' + (xs.length + xs.length / 2 + 11) ∧ K (qc_up h p (.inr (xs ++ [y]))) c'
def eAI (g : qh_G) (h : qc_H) (p : Nat) (i : Int32) (y c : Nat) (K : qc_H → Nat → Prop) : Prop := ∃ (xs : List Nat) (j : Nat) (e1 : qc_E) (c' : Nat), h p = some (.inr xs) ∧ xs.length ≤ 40000 ∧ i = nI j ∧ j ≤ xs.length ∧ h y = some e1 ∧ qc_ok g e1 ∧ c = c' + (xs.length + xs.length / 2 + 11) ∧ K (qc_up h p (.inr (xs.take j ++ y :: xs.drop j))) c'
def eSt (g : qh_G) (h : qc_H) (p : Nat) (i : Int32) (y : Nat) (K : Nat → qc_H → Prop) : Prop := ∃ (xs : List Nat) (j z : Nat) (e1 : qc_E), h p = some (.inr xs) ∧ xs.length ≤ 40000 ∧ i = nI j ∧ xs[j]? = some z ∧ h y = some e1 ∧ qc_ok g e1 ∧ K z (qc_up h p (.inr (xs.set j y)))
def eRm (h : qc_H) (p : Nat) (i : Int32) (K : Nat → qc_H → Prop) : Prop := ∃ (xs : List Nat) (j z : Nat), h p = some (.inr xs) ∧ xs.length ≤ 40000 ∧ i = nI j ∧ xs[j]? = some z ∧ K z (qc_up h p (.inr (xs.eraseIdx j)))
def eCl (h : qc_H) (p : Nat) (K : qc_H → Prop) : Prop := ∃ xs : List Nat, h p = some (.inr xs) ∧ xs.length ≤ 40000 ∧ K (qc_up h p (.inr []))
def eNL (h : qc_H) (c : Nat) (K : Nat → qc_H → Nat → Prop) : Prop := ∃ c' : Nat, c = c' + 4 ∧ ∀ a : Nat, h a = none → K a (qc_up h a (.inr [])) c'
/-- a box made, a throw, casts to a list and to int[], int[] and Object arrays made, an int[] copied -/
def eBx (h : qc_H) (v : Int32) (c : Nat) (K : Nat → qc_H → Nat → Prop) : Prop := ∃ c' : Nat, c = c' + 2 ∧ ∀ a : Nat, (h a = none ∨ h a = some (.inl (.inr (17, [.int v])))) → K a (qc_up h a (.inl (.inr (17, [.int v])))) c'
def eTh (c : Nat) (K : Prop) : Prop := ∃ c' : Nat, c = c' + 7 ∧ K
def eCL (h : qc_H) (a : Nat) (K : Prop) : Prop := (∃ xs : List Nat, h a = some (.inr xs)) ∧ K
def eCA (cA : Nat → ClassId) (h : qc_H) (a : Nat) (K : Prop) : Prop := (∃ y : vp_A, h a = some (.inl (.inl (cA 0, y)))) ∧ K
def eNI (cA : Nat → ClassId) (h : qc_H) (n : Int32) (c : Nat) (K : Nat → qc_H → Nat → Prop) : Prop := ¬ n < 0 ∧ n.toNatClampNeg ≤ 100000 ∧ ∃ c' : Nat, c = c' + (n.toNatClampNeg + 1) ∧ ∀ a : Nat, h a = none → K a (qc_up h a (.inl (.inl (cA 0, n.toNatClampNeg, .inl (fun _ => 0))))) c'
def eNQ (cA : Nat → ClassId) (t0 : Nat) (h : qc_H) (n : Int32) (c : Nat) (K : Nat → qc_H → Nat → Prop) : Prop := ¬ n < 0 ∧ n.toNatClampNeg ≤ 100000 ∧ ∃ c' : Nat, c = c' + (n.toNatClampNeg + 1) ∧ ∀ a : Nat, h a = none → K a (qc_up h a (.inl (.inl (cA t0, n.toNatClampNeg, .inr (.inr (.inr (.inr (fun _ => none)))))))) c'
def eCp (cA : Nat → ClassId) (h : qc_H) (a0 a : Nat) (sp dp n : Int32) (K : qc_H → Prop) : Prop := ∃ (n0 n1 : Nat) (f f1 : Nat → Int32), h a0 = some (.inl (.inl (cA 0, n0, .inl f))) ∧ h a = some (.inl (.inl (cA 0, n1, .inl f1))) ∧ ¬ sp < 0 ∧ ¬ dp < 0 ∧ ¬ n < 0 ∧ sp.toNatClampNeg + n.toNatClampNeg ≤ n0 ∧ dp.toNatClampNeg + n.toNatClampNeg ≤ n1 ∧ K (qc_up h a (.inl (.inl (cA 0, n1, .inl (va_cpy f f1 sp.toNatClampNeg dp.toNatClampNeg n.toNatClampNeg)))))
/-- boolean arrays (type 1) -/
def eZ (cA : Nat → ClassId) (h : qc_H) (a : Nat) (i : Int32) (K : Int32 → Prop) : Prop := ∃ (n : Nat) (f : Nat → Int32), h a = some (.inl (.inl (cA 1, n, .inl f))) ∧ vp_in i n ∧ K (f i.toNatClampNeg)
def eZW (cA : Nat → ClassId) (h : qc_H) (a : Nat) (i v : Int32) (K : qc_H → Prop) : Prop := ∃ (n : Nat) (f : Nat → Int32), h a = some (.inl (.inl (cA 1, n, .inl f))) ∧ vp_in i n ∧ K (qc_up h a (.inl (.inl (cA 1, n, .inl (upd f i.toNatClampNeg v)))))
theorem ct_n : ∀ v ∈ ([] : List Value), v.category = 1 := fun v hv => by cases hv
theorem ct_c {w : Value} {vs : List Value} (h : w.category = 1) (t : ∀ v ∈ vs, v.category = 1) : ∀ v ∈ w :: vs, v.category = 1 := fun v hv => by
  rcases List.mem_cons.mp hv with q | q
  · rw [q]; exact h
  · exact t v q
theorem ct_o {r : Option Nat} : (va_rf r).category = 1 := by cases r <;> rfl
section
variable {g : qh_G} {x : qc_X} {d c : Nat} {I : qh_I} {cc : ByteArray} {pc : Nat} {ls : List (Option Value)} {st : List Value} {h : qc_H} {Q : qh_R → qc_H → Prop}
theorem qc_up_up {h : qc_H} {a : Nat} {e e' : qc_E} : qc_up (qc_up h a e) a e' = qc_up h a e' := by
  funext b
  by_cases n : b = a
  · subst n; rw [qc_up_s, qc_up_s]
  · rw [qc_up_n n, qc_up_n n, qc_up_n n]
theorem K1_i {n : Nat} {v : Int32} {rest : List Value} (k : qc_wp g x d c I (pc + n) ls (.int v :: rest) h Q) : qc_K1 g x d c I pc n ls rest Q (.inl (some (.int v))) h := k
theorem K1_r {n : Nat} {v : Nat} {rest : List Value} (k : qc_wp g x d c I (pc + n) ls (.ref v :: rest) h Q) : qc_K1 g x d c I pc n ls rest Q (.inl (some (.ref v))) h := k
theorem K1_o {n : Nat} {v : Option Nat} {rest : List Value} (k : qc_wp g x d c I (pc + n) ls (va_rf v :: rest) h Q) : qc_K1 g x d c I pc n ls rest Q (.inl (some (va_rf v))) h := k
theorem K1_v {n : Nat} {rest : List Value} (k : qc_wp g x d c I (pc + n) ls rest h Q) : qc_K1 g x d c I pc n ls rest Q (.inl none) h := k
theorem K1_x {n : Nat} {E : String} {rest : List Value} (k : qc_wx g x d c I pc ls E h Q) : qc_K1 g x d c I pc n ls rest Q (.inr E) h := k
/-! nullable references -/
theorem re_aloadO_n (e : I.2.1 = cc) {k0 : Fin 4} {r : Option Nat} (hx : ls[(k0 : Nat)]? = some (some (va_rf r))) (hd : decode cc pc = .ok (.aload_n k0, 1)) (k : qc_wp g x d c I (pc + 1) ls (va_rf r :: st) h Q) : qc_wp g x d c I pc ls st h Q := by
  cases r with
  | none => exact qc_aloadN_n e hx hd k
  | some a => exact qc_aload_n e hx hd k
theorem re_aloadO (e : I.2.1 = cc) {i : Nat} {r : Option Nat} (hx : ls[i]? = some (some (va_rf r))) (hd : decode cc pc = .ok (.aload i, 2)) (k : qc_wp g x d c I (pc + 2) ls (va_rf r :: st) h Q) : qc_wp g x d c I pc ls st h Q := by
  cases r with
  | none => exact qc_aloadN e hx hd k
  | some a => exact qc_aload e hx hd k
theorem re_astoreO_n (e : I.2.1 = cc) {k0 : Fin 4} {r : Option Nat} (hn : (k0 : Nat) < I.2.2.1) (hd : decode cc pc = .ok (.astore_n k0, 1)) (k : qc_wp g x d c I (pc + 1) (ls.set (k0 : Nat) (some (va_rf r))) st h Q) : qc_wp g x d c I pc ls (va_rf r :: st) h Q := by
  cases r with
  | none => exact qc_astoreN_n e hn hd k
  | some a => exact qc_astore_n e hn hd k
theorem re_astoreO (e : I.2.1 = cc) {i : Nat} {r : Option Nat} (hn : i < I.2.2.1) (hd : decode cc pc = .ok (.astore i, 2)) (k : qc_wp g x d c I (pc + 2) (ls.set i (some (va_rf r))) st h Q) : qc_wp g x d c I pc ls (va_rf r :: st) h Q := by
  cases r with
  | none => exact qc_astoreN e hn hd k
  | some a => exact qc_astore e hn hd k
theorem re_ifnullO (e : I.2.1 = cc) {r : Option Nat} {off : Int} (tgt : Nat) (hd : decode cc pc = .ok (.ifnull off, 3)) (ht : (pc : Int) + off = (tgt : Int)) (kt : r = none → qc_wp g x d c I tgt ls st h Q) (kf : ∀ y, r = some y → qc_wp g x d c I (pc + 3) ls st h Q) : qc_wp g x d c I pc ls (va_rf r :: st) h Q := by
  cases r with
  | none => exact qc_ifnullN e tgt hd ht (kt rfl)
  | some y => exact qc_ifnull e hd (kf y rfl)
theorem re_ifnonnullO (e : I.2.1 = cc) {r : Option Nat} {off : Int} (tgt : Nat) (hd : decode cc pc = .ok (.ifnonnull off, 3)) (ht : (pc : Int) + off = (tgt : Int)) (kt : ∀ y, r = some y → qc_wp g x d c I tgt ls st h Q) (kf : r = none → qc_wp g x d c I (pc + 3) ls st h Q) : qc_wp g x d c I pc ls (va_rf r :: st) h Q := by
  cases r with
  | none => exact qc_ifnonnullN e hd (kf rfl)
  | some y => exact qc_ifnonnull e tgt hd ht (kt y rfl)
theorem re_aretO {r : Option Nat} {rt : FieldType} (e : I.2.1 = cc) (hr : I.2.2.2.1 = some rt) (hrt : (∃ n, rt = .object n) ∨ ∃ t, rt = .array t) (hd : decode cc pc = .ok (.areturn, 1)) (hq : Q (.inl (some (va_rf r))) h) : qc_wp g x d c I pc ls [va_rf r] h Q := qc_aret e hr hrt (by cases r with | none => exact Or.inl rfl | some a => exact Or.inr ⟨a, rfl⟩) hd hq
/-! fields -/
theorem re_getI {own Cn : String} {ci index N a : Nat} {T : u_T} {ty : Nat → FieldType} {K : Int32 → Prop} (e : I.2.1 = cc) (ho : I.1.cls = own) (ck : qh_K ci Cn T N ty) (hc : ci ≠ 17) (k : Nat) (hk : k < N) (q : Cond.fieldLink own index (T k).1 (T k).2.1 (T k).2.2.1 ∈ lw_all) (hd : decode cc pc = .ok (.getfield index, 3)) (hh : eI h a ci k K)
    (kk : ∀ v, K v → qc_wp g x d c I (pc + 3) ls (.int v :: st) h Q) : qc_wp g x d c I pc ls (.ref a :: st) h Q := by
  obtain ⟨fs, v, h1, h2, h3⟩ := hh
  exact qc_getf e ho ck hc k hk q h1 h2 hd (kk v h3)
theorem re_getR {own Cn : String} {ci index N a : Nat} {T : u_T} {ty : Nat → FieldType} {K : Nat → Prop} (e : I.2.1 = cc) (ho : I.1.cls = own) (ck : qh_K ci Cn T N ty) (hc : ci ≠ 17) (k : Nat) (hk : k < N) (q : Cond.fieldLink own index (T k).1 (T k).2.1 (T k).2.2.1 ∈ lw_all) (hd : decode cc pc = .ok (.getfield index, 3)) (hh : eR h a ci k K)
    (kk : ∀ v, K v → qc_wp g x d c I (pc + 3) ls (.ref v :: st) h Q) : qc_wp g x d c I pc ls (.ref a :: st) h Q := by
  obtain ⟨fs, v, h1, h2, h3⟩ := hh
  exact qc_getf e ho ck hc k hk q h1 h2 hd (kk v h3)
theorem re_getO {own Cn : String} {ci index N a : Nat} {T : u_T} {ty : Nat → FieldType} {K : Option Nat → Prop} (e : I.2.1 = cc) (ho : I.1.cls = own) (ck : qh_K ci Cn T N ty) (hc : ci ≠ 17) (k : Nat) (hk : k < N) (q : Cond.fieldLink own index (T k).1 (T k).2.1 (T k).2.2.1 ∈ lw_all) (hd : decode cc pc = .ok (.getfield index, 3)) (hh : eO h a ci k K)
    (kk : ∀ v, K v → qc_wp g x d c I (pc + 3) ls (va_rf v :: st) h Q) : qc_wp g x d c I pc ls (.ref a :: st) h Q := by
  obtain ⟨fs, v, h1, h2, h3⟩ := hh
  exact qc_getf e ho ck hc k hk q h1 h2 hd (kk v h3)
theorem re_getIN {own Cn host : String} {ci index N a : Nat} {T : u_T} {ty : Nat → FieldType} {K : Int32 → Prop} (e : I.2.1 = cc) (ho : I.1.cls = own) (ck : qh_K ci Cn T N ty) (hc : ci ≠ 17) (k : Nat) (hk : k < N) (q : ∀ U, g.2.2.2.2 U → va_Nw (.fieldLinkNest own index (T k).1 (T k).2.1 (T k).2.2.1 host) U) (hd : decode cc pc = .ok (.getfield index, 3)) (hh : eI h a ci k K)
    (kk : ∀ v, K v → qc_wp g x d c I (pc + 3) ls (.int v :: st) h Q) : qc_wp g x d c I pc ls (.ref a :: st) h Q := by
  obtain ⟨fs, v, h1, h2, h3⟩ := hh
  exact qc_getN e ho ck hc k hk q h1 h2 hd (kk v h3)
theorem re_getRN {own Cn host : String} {ci index N a : Nat} {T : u_T} {ty : Nat → FieldType} {K : Nat → Prop} (e : I.2.1 = cc) (ho : I.1.cls = own) (ck : qh_K ci Cn T N ty) (hc : ci ≠ 17) (k : Nat) (hk : k < N) (q : ∀ U, g.2.2.2.2 U → va_Nw (.fieldLinkNest own index (T k).1 (T k).2.1 (T k).2.2.1 host) U) (hd : decode cc pc = .ok (.getfield index, 3)) (hh : eR h a ci k K)
    (kk : ∀ v, K v → qc_wp g x d c I (pc + 3) ls (.ref v :: st) h Q) : qc_wp g x d c I pc ls (.ref a :: st) h Q := by
  obtain ⟨fs, v, h1, h2, h3⟩ := hh
  exact qc_getN e ho ck hc k hk q h1 h2 hd (kk v h3)
theorem re_put {own Cn : String} {ci index N a : Nat} {T : u_T} {ty : Nat → FieldType} {v : Value} {K : qc_H → Prop} (e : I.2.1 = cc) (ho : I.1.cls = own) (ck : qh_K ci Cn T N ty) (hc : ci ≠ 17) (k : Nat) (hk : k < N) (q : Cond.fieldLink own index (T k).1 (T k).2.1 (T k).2.2.1 ∈ lw_all) (hf : (T k).2.2.2 = false) (hn : narrow (ty k) v = v) (hfit : fits (ty k) v = true) (hd : decode cc pc = .ok (.putfield index, 3)) (hh : eP h a ci k v K)
    (kk : ∀ h', K h' → qc_wp g x d c I (pc + 3) ls st h' Q) : qc_wp g x d c I pc ls (v :: .ref a :: st) h Q := by
  obtain ⟨fs, h1, h2, h3⟩ := hh
  exact qc_putf e ho ck hc k hk q hf hn hfit h1 h2 hd (kk _ h3)
theorem re_putF {own Cn : String} {ci index N a : Nat} {T : u_T} {ty : Nat → FieldType} {v : Value} {K : qc_H → Prop} (e : I.2.1 = cc) (ho : I.1.cls = own) (hi : I.1.name = "<init>") (ck : qh_K ci Cn T N ty) (hc : ci ≠ 17) (k : Nat) (hk : k < N) (q : Cond.fieldLink own index (T k).1 (T k).2.1 (T k).2.2.1 ∈ lw_all) (hf : (T k).2.2.2 = true) (hdc : (T k).1 = own) (hn : narrow (ty k) v = v) (hfit : fits (ty k) v = true) (hd : decode cc pc = .ok (.putfield index, 3)) (hh : eP h a ci k v K)
    (kk : ∀ h', K h' → qc_wp g x d c I (pc + 3) ls st h' Q) : qc_wp g x d c I pc ls (v :: .ref a :: st) h Q := by
  obtain ⟨fs, h1, h2, h3⟩ := hh
  exact qc_putF e ho hi ck hc k hk q hf hdc hn hfit h1 h2 hd (kk _ h3)
/-! new -/
theorem re_new {own Cn : String} {ci index N : Nat} {T : u_T} {ty : Nat → FieldType} {fs : List Value} {K : Nat → qc_H → Nat → Prop} (hO : qc_O g x) (e : I.2.1 = cc) (ho : I.1.cls = own) (ck : qh_K ci Cn T N ty) (q1 : Cond.classLink own index Cn ∈ lw_all) (q2 : Cond.instantiable Cn N ∈ lw_all) (q3 : Cond.initialized Cn ∈ lw_all) (hfs : ∀ j, j < N → defaultValue (ty j) = vp_V fs j) (hd : decode cc pc = .ok (.new index, 3)) (hh : eN h c ci N fs K)
    (kk : ∀ a h' c', K a h' c' → qc_wp g x d c' I (pc + 3) ls (.ref a :: st) h' Q) : qc_wp g x d c I pc ls st h Q := by
  obtain ⟨c', rfl, h3⟩ := hh
  exact qc_new hO e ho ck q1 q2 q3 hfs hd fun a ha => kk a _ c' (h3 a ha)
theorem re_newL {own : String} {index i2 : Nat} {K : Nat → qc_H → Nat → Prop} (hO : qc_O g x) (e : I.2.1 = cc) (ho : I.1.cls = own) (q1 : Cond.classLink own index RJ2 ∈ lw_all) (q4 : Cond.methodLink own i2 I_J2_init.1 ∈ lw_all) (hw : (st.map fun v => v.category).sum ≤ 7) (hd : decode cc pc = .ok (.new index, 3)) (hd1 : decode cc (pc + 3) = .ok (.dup, 1)) (hd2 : decode cc (pc + 4) = .ok (.invokespecial i2, 3)) (hh : eNL h c K)
    (kk : ∀ a h' c', K a h' c' → qc_wp g x (d + 6) c' I (pc + 7) ls (.ref a :: st) h' Q) : qc_wp g x (d + 6) c I pc ls st h Q := by
  obtain ⟨c', rfl, h3⟩ := hh
  refine qc_new (fs := [.int 0, .null, .int 0]) hO e ho (⟨rfl, in_J2, tyJ2_ok, nmJ2⟩ : qh_K 16 RJ2 TJ2 3 tyJ2) q1 q205 q92 (by intro j hj; have hj : j = 0 ∨ j = 1 ∨ j = 2 := (by omega); rcases hj with rfl | rfl | rfl <;> rfl) hd fun a ha => ?_
  refine qc_dup e rfl hd1 ?_
  refine qe_init (m := .int 0) (b := .null) hO e ho q4 qc_up_s (by rw [List.map_cons, List.sum_cons]; have h1 : (Value.ref a).category = 1 := rfl; omega) hd2 ?_
  rw [qc_up_up]
  exact kk a _ c' (h3 a ha)
theorem re_newI {K : Nat → qc_H → Nat → Prop} {n : Int32} (hO : qc_O g x) (e : I.2.1 = cc) (q : Cond.arrayClass .int ∈ lw_all) (hd : decode cc pc = .ok (.newarray .int, 2)) (hh : eNI g.2.2.2.1 h n c K)
    (kk : ∀ a h' c', K a h' c' → qc_wp g x d c' I (pc + 2) ls (.ref a :: st) h' Q) : qc_wp g x d c I pc ls (.int n :: st) h Q := by
  obtain ⟨h1, h2, c', rfl, h3⟩ := hh
  exact qc_newI hO e q h1 rfl h2 hd fun a ha => kk a _ c' (h3 a ha)
theorem re_newQ {own E : String} {index : Nat} {n : Int32} {K : Nat → qc_H → Nat → Prop} (hO : qc_O g x) (t0 : Nat) (ht : ∀ cA : Nat → ClassId, (qh_tys cA)[t0]? = some (cA t0, .object E)) (e : I.2.1 = cc) (ho : I.1.cls = own) (q : Cond.classLink own index E ∈ lw_all) (hw : Cond.arrayOver (.object E) ∈ qc_N) (hd : decode cc pc = .ok (.anewarray index, 3)) (hh : eNQ g.2.2.2.1 t0 h n c K)
    (kk : ∀ a h' c', K a h' c' → qc_wp g x d c' I (pc + 3) ls (.ref a :: st) h' Q) : qc_wp g x d c I pc ls (.int n :: st) h Q := by
  obtain ⟨h1, h2, c', rfl, h3⟩ := hh
  exact qc_newQ hO t0 ht e ho q hw h1 rfl h2 hd fun a ha => kk a _ c' (h3 a ha)
/-! arrays -/
theorem re_iald {a : Nat} {i : Int32} {K : Int32 → Prop} (e : I.2.1 = cc) (hd : decode cc pc = .ok (.iaload, 1)) (hh : eA g.2.2.2.1 h a i K) (kk : ∀ v, K v → qc_wp g x d c I (pc + 1) ls (.int v :: st) h Q) : qc_wp g x d c I pc ls (.int i :: .ref a :: st) h Q := by
  obtain ⟨n, f, h1, h2, h3⟩ := hh
  exact qc_iald e h1 h2 hd (kk _ h3)
theorem re_iast {a : Nat} {i v : Int32} {K : qc_H → Prop} (e : I.2.1 = cc) (hd : decode cc pc = .ok (.iastore, 1)) (hh : eW g.2.2.2.1 h a i v K) (kk : ∀ h', K h' → qc_wp g x d c I (pc + 1) ls st h' Q) : qc_wp g x d c I pc ls (.int v :: .int i :: .ref a :: st) h Q := by
  obtain ⟨n, f, h1, h2, h3⟩ := hh
  exact qc_iast e h1 h2 hd (kk _ h3)
theorem re_zald {a : Nat} {i : Int32} {K : Int32 → Prop} (e : I.2.1 = cc) (hd : decode cc pc = .ok (.baload, 1)) (hh : eZ g.2.2.2.1 h a i K) (kk : ∀ v, K v → qc_wp g x d c I (pc + 1) ls (.int v :: st) h Q) : qc_wp g x d c I pc ls (.int i :: .ref a :: st) h Q := by
  obtain ⟨n, f, h1, h2, h3⟩ := hh
  exact qc_zald e h1 h2 hd (kk _ h3)
theorem re_zast {a : Nat} {i v : Int32} {K : qc_H → Prop} (e : I.2.1 = cc) (hx : v = 0 ∨ v = 1) (hd : decode cc pc = .ok (.bastore, 1)) (hh : eZW g.2.2.2.1 h a i v K) (kk : ∀ h', K h' → qc_wp g x d c I (pc + 1) ls st h' Q) : qc_wp g x d c I pc ls (.int v :: .int i :: .ref a :: st) h Q := by
  obtain ⟨n, f, h1, h2, h3⟩ := hh
  exact qc_zast e h1 (qm_vb hx) h2 hd (kk _ h3)
theorem re_aald {a : Nat} {E : String} {i : Int32} {K : Nat → Prop} (t0 : Nat) (ht : ∀ cA : Nat → ClassId, (qh_tys cA)[t0]? = some (cA t0, .object E)) (e : I.2.1 = cc) (hd : decode cc pc = .ok (.aaload, 1)) (hh : eQ g.2.2.2.1 t0 h a i K) (kk : ∀ v, K v → qc_wp g x d c I (pc + 1) ls (.ref v :: st) h Q) : qc_wp g x d c I pc ls (.int i :: .ref a :: st) h Q := by
  obtain ⟨n, f, y, h1, h2, h3, h4⟩ := hh
  refine qc_aald t0 ht e h1 h2 hd ?_
  rw [h3]
  exact kk _ h4
theorem re_aast {a v t0 ci : Nat} {r : vw_C} {i : Int32} {K : qc_H → Prop} (ht0 : ∀ cA : Nat → ClassId, (qh_tys cA)[t0]? = some (cA t0, .object r.1)) (hci : qh_cl[ci]? = some r) (hc : ci ≠ 17) (e : I.2.1 = cc) (hd : decode cc pc = .ok (.aastore, 1)) (hh : eV g.2.2.2.1 t0 ci h a i v K) (kk : ∀ h', K h' → qc_wp g x d c I (pc + 1) ls st h' Q) : qc_wp g x d c I pc ls (.ref v :: .int i :: .ref a :: st) h Q := by
  obtain ⟨n, f, vs, h1, h2, h3, h4⟩ := hh
  exact qc_aastC ht0 hci hc e h1 h2 h3 hd (kk _ h4)
theorem re_alen {a : Nat} {ty : FieldType} {K : Int32 → Prop} (e : I.2.1 = cc) (t0 : Nat) (ht : ∀ cA : Nat → ClassId, (qh_tys cA)[t0]? = some (cA t0, ty)) (hd : decode cc pc = .ok (.arraylength, 1)) (hh : eT g.2.2.2.1 t0 h a K) (kk : ∀ v, K v → qc_wp g x d c I (pc + 1) ls (.int v :: st) h Q) : qc_wp g x d c I pc ls (.ref a :: st) h Q := by
  obtain ⟨y, h1, h2⟩ := hh
  exact qc_alen e t0 ht h1 hd (kk _ h2)
theorem re_copy {own : String} {index a0 a : Nat} {sp dp n : Int32} {K : qc_H → Prop} (e : I.2.1 = cc) (ho : I.1.cls = own) (q1 : Cond.methodLink own index arraycopyName ∈ lw_all) (q2 : Cond.native arraycopyName ∈ lw_all) (q3 : Cond.static arraycopyName ∈ lw_all) (q4 : Cond.initialized "java/lang/System" ∈ lw_all) (hw : (st.map fun v => v.category).sum ≤ 8) (hd : decode cc pc = .ok (.invokestatic index, 3)) (hh : eCp g.2.2.2.1 h a0 a sp dp n K)
    (kk : ∀ h', K h' → qc_wp g x d c I (pc + 3) ls st h' Q) : qc_wp g x d c I pc ls (.int n :: .int dp :: .ref a :: .int sp :: .ref a0 :: st) h Q := by
  obtain ⟨n0, n1, f, f1, h1, h2, h3, h4, h5, h6, h7, h8⟩ := hh
  exact qc_copyI e ho q1 q2 q3 q4 h1 h2 h3 h4 h5 h6 h7 hw hd (kk _ h8)
/-! casts -/
theorem re_castS {own : String} {index b ci : Nat} {r : vw_C} {K : Prop} (hO : qc_O g x) (e : I.2.1 = cc) (ho : I.1.cls = own) (hci : qh_cl[ci]? = some r) (q : Cond.classLink own index r.1 ∈ lw_all) (hd : decode cc pc = .ok (.checkcast index, 3)) (hh : eC h b ci K) (kk : K → qc_wp g x d c I (pc + 3) ls (.ref b :: st) h Q) : qc_wp g x d c I pc ls (.ref b :: st) h Q := by
  obtain ⟨⟨fs, h1⟩, h2⟩ := hh
  exact qc_castS hO e ho hci q h1 hd (kk h2)
theorem re_castL {own : String} {index b : Nat} {K : Prop} (e : I.2.1 = cc) (ho : I.1.cls = own) (q : Cond.classLink own index "java/util/ArrayList" ∈ lw_all) (hd : decode cc pc = .ok (.checkcast index, 3)) (hh : eCL h b K) (kk : K → qc_wp g x d c I (pc + 3) ls (.ref b :: st) h Q) : qc_wp g x d c I pc ls (.ref b :: st) h Q := by
  obtain ⟨⟨xs, h1⟩, h2⟩ := hh
  exact qc_castL e ho q h1 hd (kk h2)
theorem re_castA {own : String} {index b : Nat} {K : Prop} (e : I.2.1 = cc) (ho : I.1.cls = own) (q : Cond.classLink own index "[I" ∈ lw_all) (hd : decode cc pc = .ok (.checkcast index, 3)) (hh : eCA g.2.2.2.1 h b K) (kk : K → qc_wp g x d c I (pc + 3) ls (.ref b :: st) h Q) : qc_wp g x d c I pc ls (.ref b :: st) h Q := by
  obtain ⟨⟨y, h1⟩, h2⟩ := hh
  exact qc_castA e ho q h1 hd (kk h2)
/-! lists, Integers -/
theorem re_size {own : String} {index p : Nat} {K : Int32 → Prop} (hO : qc_O g x) (e : I.2.1 = cc) (ho : I.1.cls = own) (q1 : Cond.methodLink own index I_J2_size.1 ∈ lw_all) (hw : (st.map fun v => v.category).sum ≤ 8) (hd : decode cc pc = .ok (.invokevirtual index, 3)) (hh : eSz h p K) (kk : ∀ v, K v → qc_wp g x (d + 6) c I (pc + 3) ls (.int v :: st) h Q) : qc_wp g x (d + 6) c I pc ls (.ref p :: st) h Q := by
  obtain ⟨xs, h1, h2, h3⟩ := hh
  exact qe_size hO e ho q1 h2 h1 hw hd (kk _ h3)
theorem re_empty {own : String} {index p : Nat} {K : Int32 → Prop} (hO : qc_O g x) (e : I.2.1 = cc) (ho : I.1.cls = own) (q1 : Cond.methodLink own index I_J2_isEmpty.1 ∈ lw_all) (hw : (st.map fun v => v.category).sum ≤ 8) (hd : decode cc pc = .ok (.invokevirtual index, 3)) (hh : eEm h p K) (kk : ∀ v, K v → qc_wp g x (d + 6) c I (pc + 3) ls (.int v :: st) h Q) : qc_wp g x (d + 6) c I pc ls (.ref p :: st) h Q := by
  obtain ⟨xs, h1, h2, h3⟩ := hh
  exact qe_empty hO e ho q1 h2 h1 hw hd (kk _ h3)
theorem re_get {own : String} {index p : Nat} {i : Int32} {K : Nat → Prop} (hO : qc_O g x) (e : I.2.1 = cc) (ho : I.1.cls = own) (q1 : Cond.methodLink own index I_J2_get.1 ∈ lw_all) (hw : (st.map fun v => v.category).sum ≤ 8) (hd : decode cc pc = .ok (.invokevirtual index, 3)) (hh : eGt h p i K) (kk : ∀ v, K v → qc_wp g x (d + 6) c I (pc + 3) ls (.ref v :: st) h Q) : qc_wp g x (d + 6) c I pc ls (.int i :: .ref p :: st) h Q := by
  obtain ⟨xs, j, y, h1, h2, rfl, h4, h5⟩ := hh
  exact qe_get hO e ho q1 h2 h1 h4 hw hd (kk _ h5)
theorem re_add {own : String} {index p y : Nat} {K : qc_H → Nat → Prop} (hO : qc_O g x) (e : I.2.1 = cc) (ho : I.1.cls = own) (q1 : Cond.methodLink own index I_J2_add_2.1 ∈ lw_all) (hw : (st.map fun v => v.category).sum ≤ 8) (hd : decode cc pc = .ok (.invokevirtual index, 3)) (hh : eAd g h p y c K) (kk : ∀ h' c', K h' c' → qc_wp g x (d + 6) c' I (pc + 3) ls (.int 1 :: st) h' Q) : qc_wp g x (d + 6) c I pc ls (.ref y :: .ref p :: st) h Q := by
  obtain ⟨xs, e1, c', h1, h2, h3, h4, rfl, h5⟩ := hh
  exact qe_add hO e ho q1 h2 h1 h3 h4 hw hd (kk _ _ h5)
theorem re_addI {own : String} {index p y : Nat} {i : Int32} {K : qc_H → Nat → Prop} (hO : qc_O g x) (e : I.2.1 = cc) (ho : I.1.cls = own) (q1 : Cond.methodLink own index I_J2_add.1 ∈ lw_all) (hw : (st.map fun v => v.category).sum ≤ 8) (hd : decode cc pc = .ok (.invokevirtual index, 3)) (hh : eAI g h p i y c K) (kk : ∀ h' c', K h' c' → qc_wp g x (d + 6) c' I (pc + 3) ls st h' Q) : qc_wp g x (d + 6) c I pc ls (.ref y :: .int i :: .ref p :: st) h Q := by
  obtain ⟨xs, j, e1, c', h1, h2, rfl, h6, h3, h4, rfl, h5⟩ := hh
  exact qe_addI hO e ho q1 h2 h1 h6 h3 h4 hw hd (kk _ _ h5)
theorem re_set {own : String} {index p y : Nat} {i : Int32} {K : Nat → qc_H → Prop} (hO : qc_O g x) (e : I.2.1 = cc) (ho : I.1.cls = own) (q1 : Cond.methodLink own index I_J2_set.1 ∈ lw_all) (hw : (st.map fun v => v.category).sum ≤ 8) (hd : decode cc pc = .ok (.invokevirtual index, 3)) (hh : eSt g h p i y K) (kk : ∀ v h', K v h' → qc_wp g x (d + 6) c I (pc + 3) ls (.ref v :: st) h' Q) : qc_wp g x (d + 6) c I pc ls (.ref y :: .int i :: .ref p :: st) h Q := by
  obtain ⟨xs, j, z, e1, h1, h2, rfl, h6, h3, h4, h5⟩ := hh
  exact qe_set hO e ho q1 h2 h1 h6 h3 h4 hw hd (kk _ _ h5)
theorem re_remove {own : String} {index p : Nat} {i : Int32} {K : Nat → qc_H → Prop} (hO : qc_O g x) (e : I.2.1 = cc) (ho : I.1.cls = own) (q1 : Cond.methodLink own index I_J2_remove.1 ∈ lw_all) (hw : (st.map fun v => v.category).sum ≤ 8) (hd : decode cc pc = .ok (.invokevirtual index, 3)) (hh : eRm h p i K) (kk : ∀ v h', K v h' → qc_wp g x (d + 6) c I (pc + 3) ls (.ref v :: st) h' Q) : qc_wp g x (d + 6) c I pc ls (.int i :: .ref p :: st) h Q := by
  obtain ⟨xs, j, z, h1, h2, rfl, h6, h5⟩ := hh
  exact qe_remove hO e ho q1 h2 h1 h6 hw hd (kk _ _ h5)
theorem re_clear {own : String} {index p : Nat} {K : qc_H → Prop} (hO : qc_O g x) (e : I.2.1 = cc) (ho : I.1.cls = own) (q1 : Cond.methodLink own index I_J2_clear.1 ∈ lw_all) (hw : (st.map fun v => v.category).sum ≤ 8) (hd : decode cc pc = .ok (.invokevirtual index, 3)) (hh : eCl h p K) (kk : ∀ h', K h' → qc_wp g x (d + 6) c I (pc + 3) ls st h' Q) : qc_wp g x (d + 6) c I pc ls (.ref p :: st) h Q := by
  obtain ⟨xs, h1, h2, h5⟩ := hh
  exact qe_clear hO e ho q1 h2 h1 hw hd (kk _ h5)
theorem re_box {own : String} {index : Nat} {v : Int32} {K : Nat → qc_H → Nat → Prop} (hO : qc_O g x) (e : I.2.1 = cc) (ho : I.1.cls = own) (q1 : Cond.methodLink own index I_J21_valueOf.1 ∈ lw_all) (hw : (st.map fun v => v.category).sum ≤ 8) (hd : decode cc pc = .ok (.invokestatic index, 3)) (hh : eBx h v c K) (kk : ∀ a h' c', K a h' c' → qc_wp g x (d + 6) c' I (pc + 3) ls (.ref a :: st) h' Q) : qc_wp g x (d + 6) c I pc ls (.int v :: st) h Q := by
  obtain ⟨c', rfl, h5⟩ := hh
  exact qe_box hO e ho q1 hw hd fun a ha => kk a _ _ (h5 a ha)
theorem re_unbox {own : String} {index a : Nat} {K : Int32 → Prop} (hO : qc_O g x) (e : I.2.1 = cc) (ho : I.1.cls = own) (q1 : Cond.methodLink own index I_J21_intValue.1 ∈ lw_all) (hw : (st.map fun v => v.category).sum ≤ 8) (hd : decode cc pc = .ok (.invokevirtual index, 3)) (hh : eB h a K) (kk : ∀ v, K v → qc_wp g x (d + 6) c I (pc + 3) ls (.int v :: st) h Q) : qc_wp g x (d + 6) c I pc ls (.ref a :: st) h Q := by
  obtain ⟨v, h1, h2⟩ := hh
  exact qe_unbox hO e ho q1 h1 hw hd (kk _ h2)
/-- out of the method, past rows of other classes -/
theorem qh_outP {τ : qh_H} {Q' : qh_R → qh_H → Prop} {own E : String} (ho : I.1.cls = own) (hh : ∀ z ∈ tableOf I.2.2.2.2, covers z pc = false ∨ (z.catchType ≠ 0 ∧ ∃ nm : String, Cond.classLink own z.catchType nm ∈ lw_all ∧ ∀ U, g.2.2.2.2 U → va_Nc E nm U)) (hq : Q' (.inr E) τ) : qh_wx g d c I pc ls E τ Q' := by
  intro p e0 s m args below meth cd lsA ws H locs cells slots mc rest q ce C hl hc hT hP hD hS h1 h2 hq9 hv hcl
  have hts := C.2.2.2.2.2.2.1
  have hXs := C.2.2.2.2.2.2.2.2.1
  refine vx_outP (ho ▸ C.2.2.2.2.2.1) C.2.2.2.1 (by
    rw [C.2.2.2.2.2.2.2.2.2.2.2.1]
    intro z hz
    rcases hh z hz with q1 | ⟨q1, nm, q2, q3⟩
    · exact Or.inl q1
    · exact Or.inr ⟨q1, nm, hts _ q2, q3 s hXs⟩) hq9 hv hcl (fun t ht hvm => ⟨τ, hq, ⟨ws, hT, by rw [ht]; exact hP, hD⟩, hS.F ht⟩) hS.2.2 (by omega) (by omega)
theorem qc_outP {own E : String} (ho : I.1.cls = own) (hh : ∀ z ∈ tableOf I.2.2.2.2, covers z pc = false ∨ (z.catchType ≠ 0 ∧ ∃ nm : String, Cond.classLink own z.catchType nm ∈ lw_all ∧ ∀ U, g.2.2.2.2 U → va_Nc E nm U)) (hq : Q (.inr E) h) : qc_wx g x d c I pc ls E h Q := fun τ hR => qh_outP ho hh ⟨h, hR, hq⟩
/-- an array of boolean arrays read -/
theorem qh_aaldA {τ : qh_H} {Q' : qh_R → qh_H → Prop} {a n : Nat} {f : Nat → Option Nat} {i : Int32} (t0 : Nat) (ht : ∀ cA : Nat → ClassId, (qh_tys cA)[t0]? = some (cA t0, .array .boolean)) (e : I.2.1 = cc) (ha : τ a = some (.inl (g.2.2.2.1 t0, n, .inr (.inr (.inr (.inr f)))))) (hin : vp_in i n) (hd : decode cc pc = .ok (.aaload, 1)) (kk : qh_wp g d c I (pc + 1) ls (va_rf (f i.toNatClampNeg) :: st) τ Q') : qh_wp g d c I pc ls (.int i :: .ref a :: st) τ Q' := by
  intro p e0 s m args below meth cd lsA ws H locs cells slots mc C hl hc hT hP hD hS h1 h2
  obtain ⟨k0, hk0⟩ := hT a _ ha
  have hlt : i.toNatClampNeg < n := Nat.not_le.mp fun q => hin (Or.inr q)
  exact W.aald (v := va_rf (f i.toNatClampNeg)) (ty := .array .boolean) C.1 (C.2.1.trans e) (hP k0 _ hk0) ((C.2.2.2.2.2.2.2.1.2 t0 _ (ht _)).1 n (fun j => va_rf (f j))) rfl (fun q => by cases q) (by show ¬ (i < 0 ∨ (arrV _ _ _).slots.size ≤ _); rw [arrV_size]; exact hin) (by show (arrV _ _ _).slots[_]? = _; rw [arrV_read _ _ hlt]) rfl rfl hd (kk p e0 s m args below meth cd lsA ws H locs cells slots mc C hl hc hT hP hD hS h1 h2)
theorem re_aaldA {a : Nat} {i : Int32} {K : Nat → Prop} (t0 : Nat) (ht : ∀ cA : Nat → ClassId, (qh_tys cA)[t0]? = some (cA t0, .array .boolean)) (e : I.2.1 = cc) (hd : decode cc pc = .ok (.aaload, 1)) (hh : eQ g.2.2.2.1 t0 h a i K) (kk : ∀ v, K v → qc_wp g x d c I (pc + 1) ls (.ref v :: st) h Q) : qc_wp g x d c I pc ls (.int i :: .ref a :: st) h Q := by
  obtain ⟨n, f, y, h1, h2, h3, h4⟩ := hh
  intro τ hR
  refine qh_aaldA t0 ht e (hR.arr h1) h2 hd ?_
  rw [h3]
  exact kk _ h4 τ hR
end
