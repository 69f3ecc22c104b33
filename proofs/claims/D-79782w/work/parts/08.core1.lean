/-! CORE 1: one heap of objects by address over the machine; qh_wp: the machine at this frame comes to an end with Q -/
set_option maxRecDepth 100000
abbrev qh_H : Type := Nat → Option va_E
abbrev qh_R : Type := Option Value ⊕ String
abbrev qh_I : Type := MethodName × ByteArray × Nat × Option FieldType × List (Nat × Nat × Nat × Nat)
abbrev qh_G : Type := Launch × va_G × (Nat → Prop) × (Nat → ClassId) × (State → Prop)
def qh_tys (cA : Nat → ClassId) : List (ClassId × FieldType) := [(cA 0, .int), (cA 1, .boolean), (cA 2, .long), (cA 3, .object "java/lang/Object"), (cA 4, .object "QueryHarbor$Line"), (cA 5, .object "QueryHarbor$Source"), (cA 6, .object "QueryHarbor$Row"), (cA 7, .object "QueryHarbor$Seat"), (cA 8, .array .boolean)]
def qh_no : u_T := fun _ => ("", "", "", false)
/-- the classes of which objects are made (the last five: exceptions that are caught, of no field) -/
def qh_cl : List vw_C := [(RX1, TX1, 16), (RX2, TX2, 10), (RX3, qh_no, 0), (RX4, qh_no, 0), (RX5, qh_no, 0), (RX6, TX6, 7), (RX7, TX7, 6), (RX8, TX8, 94), (RX9, TX9, 2), (RX10, TX10, 3), (RX11, TX11, 4), (RX12, TX12, 4), (RX13, TX13, 2), (RX14, TX14, 11), (RX17, TX17, 5), (RX18, TX18, 4), (RJ2, TJ2, 3), (RJ21, TJ21, 1), (RX15, qh_no, 0), (RX16, qh_no, 0), (RJ6, qh_no, 0), (RJ9, qh_no, 0), (RJ12, qh_no, 0)]
abbrev qh_upd (τ : qh_H) (a : Nat) (e : va_E) : qh_H := fun b => if b = a then some e else τ b
def qh_T (τ : qh_H) (ws : va_W) : Prop := ∀ (a : Nat) (e : va_E), τ a = some e → ∃ k : Nat, ws[k]? = some (a, e)
def qh_lv : Nat → List (Option Value) → List (Nat × Value)
  | _, [] => []
  | i, none :: r => qh_lv (i + 1) r
  | i, some v :: r => (i, v) :: qh_lv (i + 1) r
def qh_room (d c : Nat) : Room := { frames := d + 10, cells := c, slots := c, locals := 200 * d + 400 }
def qh_hd (I : qh_I) : Cond := match I.2.2.2.2 with
  | [] => Cond.code I.1 I.2.1 I.2.2.1 I.2.2.2.1
  | h :: t => Cond.codeWith I.1 I.2.1 I.2.2.1 I.2.2.2.1 (h :: t)
/-- what holds of the stable part X of the world: it stays where nothing outside A changes -/
def qh_St (g : qh_G) : Prop := ∀ s U : State, s.WarmedH U.vm → s.heap.size ≤ U.heap.size → (∀ q : Nat, q < s.heap.size → ¬ g.2.2.1 q → U.heap[q]? = s.heap[q]?) → g.2.2.2.2 s → g.2.2.2.2 U
def qh_C (g : qh_G) (I : qh_I) (p : Program) (s : State) (m : MethodId) (args : Array Value) (meth : Method) (cd : Code) : Prop :=
  p.tables.exec = Jvm.exec ∧ cd.code = I.2.1 ∧ meth.sig.returnType = I.2.2.2.1 ∧ meth.locks = false ∧ cd.maxLocals = I.2.2.1 ∧ s.vm.findClass I.1.cls = some m.cls ∧ (∀ w ∈ lw_all, w.before args s = true) ∧ va_K g.2.1 qh_cl (qh_tys g.2.2.2.1) s ∧ g.2.2.2.2 s ∧ (∀ q : Nat, s.heap.size ≤ q → g.2.2.1 q) ∧ meth.name = I.1.name ∧ cd.exceptionTable.toList = tableOf I.2.2.2.2 ∧ qh_St g
def qh_W (g : qh_G) (τ : qh_H) (H : Heap) : Prop := ∃ ws : va_W, qh_T τ ws ∧ va_P g.2.1 qh_cl ws H ∧ va_D g.2.2.1 ws
def qh_Qc (g : qh_G) (Q : qh_R → qh_H → Prop) : Array Value → State → Outcome → State → Prop := fun _ st o t => ∃ (v : Option Value) (τ' : qh_H), o = .returned v ∧ Q (.inl v) τ' ∧ qh_W g τ' t.heap ∧ va_F g.2.2.1 st t
def qh_Xc (g : qh_G) (Q : qh_R → qh_H → Prop) : String → State → State → Prop := fun E st t => ∃ τ' : qh_H, Q (.inr E) τ' ∧ qh_W g τ' t.heap ∧ va_F g.2.2.1 st t
def qh_P (g : qh_G) (τ : qh_H) (U : State) : Prop := qh_W g τ U.heap ∧ va_K g.2.1 qh_cl (qh_tys g.2.2.2.1) U ∧ g.2.2.2.2 U ∧ (∀ q : Nat, U.heap.size ≤ q → g.2.2.1 q) ∧ qh_St g
/-- a method, called with these arguments over the heap τ, at depth d, of cost c: it ends with Q -/
def qh_S (g : qh_G) (d c : Nat) (I : qh_I) (As : List Value) (τ : qh_H) (Q : qh_R → qh_H → Prop) : Prop :=
  vx_Met g.1 I.1 (qh_hd I :: lw_all) (qh_room d c) (va_Pc As (qh_P g τ)) (qh_Qc g Q) (qh_Xc g Q) c c g.2.2.1
def qh_wp (g : qh_G) (d c : Nat) (I : qh_I) (pc : Nat) (ls : List (Option Value)) (st : List Value) (τ : qh_H) (Q : qh_R → qh_H → Prop) : Prop :=
  ∀ (p : Program) (e : Env) (s : State) (m : MethodId) (args : Array Value) (below : List Frame) (meth : Method) (cd : Code) (lsA : Array Slot) (ws : va_W) (H : Heap) (locs : List Loc) (cells slots mc : Nat),
    qh_C g I p s m args meth cd → lv_has lsA I.2.2.1 (qh_lv 0 ls) → (∀ v : Value, some v ∈ ls → v.category = 1) → qh_T τ ws → va_P g.2.1 qh_cl ws H → va_D g.2.2.1 ws → va_S g.2.2.1 s.heap H locs → cells + c ≤ mc → slots + c ≤ mc →
    W p g.1 e (qh_room d mc) s m args below meth cd H locs cells slots (vx_MQ below (qh_Qc g Q) (qh_Xc g Q) args s mc mc g.2.2.1) (F0 m pc lsA st)
/-- the same with an exception E on its way -/
def qh_wx (g : qh_G) (d c : Nat) (I : qh_I) (pc : Nat) (ls : List (Option Value)) (E : String) (τ : qh_H) (Q : qh_R → qh_H → Prop) : Prop :=
  ∀ (p : Program) (e : Env) (s : State) (m : MethodId) (args : Array Value) (below : List Frame) (meth : Method) (cd : Code) (lsA : Array Slot) (ws : va_W) (H : Heap) (locs : List Loc) (cells slots mc : Nat) (rest : List Value) (q : Addr) (ce : Cell),
    qh_C g I p s m args meth cd → lv_has lsA I.2.2.1 (qh_lv 0 ls) → (∀ v : Value, some v ∈ ls → v.category = 1) → qh_T τ ws → va_P g.2.1 qh_cl ws H → va_D g.2.2.1 ws → va_S g.2.2.1 s.heap H locs → cells + c ≤ mc → slots + c ≤ mc →
    H[q]? = some ce → ce.vm = .none → s.vm.findClass E = some ce.cls →
    vx_W p g.1 e (qh_room d mc) s m args below meth cd H locs cells slots (vx_MQ below (qh_Qc g Q) (qh_Xc g Q) args s mc mc g.2.2.1) (F0 m pc lsA rest) q
/-! the heap by addresses -/
theorem qh_upd_s {τ : qh_H} {a : Nat} {e : va_E} : qh_upd τ a e a = some e := if_pos rfl
theorem qh_upd_n {τ : qh_H} {a b : Nat} {e : va_E} (h : b ≠ a) : qh_upd τ a e b = τ b := if_neg h
theorem qh_T.set {A : Nat → Prop} {τ : qh_H} {ws : va_W} {k a : Nat} {e e' : va_E} (hT : qh_T τ ws) (hD : va_D A ws) (hk : ws[k]? = some (a, e)) : qh_T (qh_upd τ a e') (ws.set k (a, e')) := by
  intro b x hb
  have hkl : k < ws.length := (List.getElem?_eq_some_iff.mp hk).1
  by_cases h : b = a
  · subst h
    rw [qh_upd_s] at hb
    cases hb
    exact ⟨k, by rw [List.getElem?_set_self hkl]⟩
  · rw [qh_upd_n h] at hb
    obtain ⟨j, hj⟩ := hT b x hb
    have hjk : k ≠ j := by
      intro e1
      subst e1
      rw [hk] at hj
      exact h (Prod.mk.inj (Option.some.inj hj)).1.symm
    exact ⟨j, by rw [List.getElem?_set_ne hjk]; exact hj⟩
theorem qh_T.push {A : Nat → Prop} {τ : qh_H} {ws : va_W} {a : Nat} {e : va_E} (hT : qh_T τ ws) (hD : va_D A (ws ++ [(a, e)])) : qh_T (qh_upd τ a e) (ws ++ [(a, e)]) ∧ τ a = none := by
  have hn : τ a = none := by
    cases hz : τ a with
    | none => rfl
    | some x =>
      obtain ⟨k, hk⟩ := hT a x hz
      have hkl : k < ws.length := (List.getElem?_eq_some_iff.mp hk).1
      have h1 : (ws ++ [(a, e)])[k]? = some (a, x) := by rw [List.getElem?_append_left hkl]; exact hk
      have h2 : (ws ++ [(a, e)])[ws.length]? = some (a, e) := by simp
      have := hD.1 k ws.length _ _ h1 h2 rfl
      omega
  refine ⟨?_, hn⟩
  intro b x hb
  by_cases h : b = a
  · subst h
    rw [qh_upd_s] at hb
    cases hb
    exact ⟨ws.length, by simp⟩
  · rw [qh_upd_n h] at hb
    obtain ⟨j, hj⟩ := hT b x hb
    exact ⟨j, by rw [List.getElem?_append_left (List.getElem?_eq_some_iff.mp hj).1]; exact hj⟩
theorem qh_T.less {τ τ' : qh_H} {ws : va_W} (hT : qh_T τ ws) (h : ∀ a e, τ' a = some e → τ a = some e) : qh_T τ' ws := fun a e ha => hT a e (h a e ha)
/-! locals -/
theorem qh_lv_mem : ∀ (ls : List (Option Value)) (i k : Nat) (v : Value), ls[k]? = some (some v) → (i + k, v) ∈ qh_lv i ls
  | [], i, k, v, h => by simp at h
  | none :: r, i, 0, v, h => by simp at h
  | some w :: r, i, 0, v, h => by
    simp at h
    subst h
    exact List.mem_cons_self
  | none :: r, i, k + 1, v, h => by
    have := qh_lv_mem r (i + 1) k v (by simpa using h)
    rw [show i + 1 + k = i + (k + 1) by omega] at this
    exact this
  | some w :: r, i, k + 1, v, h => by
    have := qh_lv_mem r (i + 1) k v (by simpa using h)
    rw [show i + 1 + k = i + (k + 1) by omega] at this
    exact List.mem_cons_of_mem _ this
theorem qh_lv_of : ∀ (ls : List (Option Value)) (i : Nat) (q : Nat × Value), q ∈ qh_lv i ls → ∃ k, q.1 = i + k ∧ ls[k]? = some (some q.2)
  | [], i, q, h => by cases h
  | none :: r, i, q, h => by
    obtain ⟨k, h1, h2⟩ := qh_lv_of r (i + 1) q h
    exact ⟨k + 1, by omega, by simpa using h2⟩
  | some w :: r, i, q, h => by
    rcases List.mem_cons.mp h with e | e
    · exact ⟨0, by rw [e]; rfl, by rw [e]; rfl⟩
    · obtain ⟨k, h1, h2⟩ := qh_lv_of r (i + 1) q e
      exact ⟨k + 1, by omega, by simpa using h2⟩
theorem qh_lv_at {lsA : Array Slot} {n : Nat} {ls : List (Option Value)} (h : lv_has lsA n (qh_lv 0 ls)) {k : Nat} {v : Value} (hk : ls[k]? = some (some v)) : lsA[k]? = some (.val v) := by
  have := h.2.2 (0 + k, v) (qh_lv_mem ls 0 k v hk)
  simpa using this
theorem qh_lv_set {lsA : Array Slot} {n k : Nat} {ls : List (Option Value)} {v : Value} (hc : ∀ w : Value, some w ∈ ls → w.category = 1) (h : lv_has lsA n ((k, v) :: (qh_lv 0 ls).filter (fun q => !(q.1 == k) && !(q.1 + 1 == k && q.2.category == 2)))) : lv_has lsA n (qh_lv 0 (ls.set k (some v))) := by
  refine ⟨h.1, h.2.1, fun q hq => h.2.2 q ?_⟩
  obtain ⟨j, e1, e2⟩ := qh_lv_of _ _ _ hq
  rw [Nat.zero_add] at e1
  by_cases hj : k = j
  · subst hj
    have hkl : k < ls.length := by
      have := (List.getElem?_eq_some_iff.mp e2).1
      rwa [List.length_set] at this
    rw [List.getElem?_set_self hkl] at e2
    have e3 := Option.some.inj (Option.some.inj e2)
    have : q = (k, v) := Prod.ext e1 e3.symm
    rw [this]
    exact List.mem_cons_self
  · rw [List.getElem?_set_ne hj] at e2
    refine List.mem_cons_of_mem _ (List.mem_filter.mpr ⟨?_, ?_⟩)
    · have := qh_lv_mem ls 0 j q.2 e2
      rw [Nat.zero_add, ← e1] at this
      exact this
    · have hcat := hc q.2 (List.mem_of_getElem? e2)
      rw [hcat]
      have : (q.1 == k) = false := by
        rw [e1]
        exact beq_eq_false_iff_ne.mpr (fun z => hj z.symm)
      rw [this]
      simp
theorem qh_cat_set {ls : List (Option Value)} {k : Nat} {v : Value} (hc : ∀ w : Value, some w ∈ ls → w.category = 1) (hv : v.category = 1) : ∀ w : Value, some w ∈ ls.set k (some v) → w.category = 1 := by
  intro w hw
  rcases List.mem_or_eq_of_mem_set hw with h | h
  · exact hc w h
  · cases h
    exact hv
