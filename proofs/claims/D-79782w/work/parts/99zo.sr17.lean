/-! SR 17: new boolean[], long[] and boolean[6][3] -/
set_option maxRecDepth 100000
/-! a row of new cells -/
def qh_psh (τ : qh_H) : Nat → List va_E → qh_H
  | _, [] => τ
  | a, e :: r => qh_psh (qh_upd τ a e) (a + 1) r
def qh_new1 (A : Nat → Prop) (τ : qh_H) : Nat → List va_E → Prop
  | _, [] => True
  | a, e :: r => τ a = none ∧ A a ∧ qh_new1 A (qh_upd τ a e) (a + 1) r
def qh_row : Nat → List va_E → va_W
  | _, [] => []
  | a, e :: r => (a, e) :: qh_row (a + 1) r
theorem qh_row_at : ∀ {es : List va_E} {a k : Nat} {q : Nat × va_E}, (qh_row a es)[k]? = some q → q.1 = a + k ∧ es[k]? = some q.2
  | [], a, k, q, h => by cases h
  | e :: r, a, 0, q, h => by cases h; exact ⟨rfl, rfl⟩
  | e :: r, a, k + 1, q, h => by
    obtain ⟨h1, h2⟩ := qh_row_at (es := r) (a := a + 1) (k := k) (q := q) h
    exact ⟨by omega, h2⟩
theorem va_D.push9 {A : Nat → Prop} {ws : va_W} {a : Nat} {e : va_E} (hD : va_D A ws) (hl : ∀ (k : Nat) (q : Nat × va_E), ws[k]? = some q → q.1 < a) (hA : A a) : va_D A (ws ++ [(a, e)]) ∧ ∀ (k : Nat) (q : Nat × va_E), (ws ++ [(a, e)])[k]? = some q → q.1 < a + 1 := by
  have key : ∀ (k : Nat) (q : Nat × va_E), (ws ++ [(a, e)])[k]? = some q → (ws[k]? = some q ∧ q.1 < a) ∨ (k = ws.length ∧ q.1 = a) := by
    intro k q hk
    by_cases hkl : k < ws.length
    · rw [List.getElem?_append_left hkl] at hk
      exact Or.inl ⟨hk, hl k q hk⟩
    · rw [List.getElem?_append_right (by omega)] at hk
      have hz : k - ws.length < 1 := (List.getElem?_eq_some_iff.mp hk).1
      have hk0 : k = ws.length := by omega
      subst hk0
      rw [Nat.sub_self] at hk
      cases hk
      exact Or.inr ⟨rfl, rfl⟩
  refine ⟨⟨fun i j x y hi hj hxy => ?_, fun k q hk => ?_⟩, fun k q hk => ?_⟩
  · rcases key i x hi with ⟨h1, l1⟩ | ⟨h1, l1⟩ <;> rcases key j y hj with ⟨h2, l2⟩ | ⟨h2, l2⟩
    · exact hD.1 i j x y h1 h2 hxy
    · omega
    · omega
    · omega
  · rcases key k q hk with ⟨h1, _⟩ | ⟨_, h1⟩
    · exact hD.2 k q h1
    · rw [h1]; exact hA
  · rcases key k q hk with ⟨_, h1⟩ | ⟨_, h1⟩ <;> omega
theorem qh_rows {A : Nat → Prop} : ∀ {es : List va_E} {a : Nat} {τ : qh_H} {ws : va_W}, qh_T τ ws → va_D A ws → (∀ (k : Nat) (q : Nat × va_E), ws[k]? = some q → q.1 < a) → (∀ j, a ≤ j → A j) → qh_T (qh_psh τ a es) (ws ++ qh_row a es) ∧ va_D A (ws ++ qh_row a es) ∧ qh_new1 A τ a es
  | [], a, τ, ws, hT, hD, hl, hA => by
    show qh_T τ (ws ++ []) ∧ va_D A (ws ++ []) ∧ True
    rw [List.append_nil]
    exact ⟨hT, hD, trivial⟩
  | e :: r, a, τ, ws, hT, hD, hl, hA => by
    obtain ⟨d1, l1⟩ := hD.push9 (e := e) hl (hA a (Nat.le_refl _))
    obtain ⟨t1, n1⟩ := hT.push d1
    obtain ⟨t2, d2, n2⟩ := qh_rows (es := r) (a := a + 1) t1 d1 l1 (fun j hj => hA j (by omega))
    rw [List.append_assoc] at t2 d2
    exact ⟨t2, d2, n1, hA a (Nat.le_refl _), n2⟩
section
variable {g : qh_G} {d c : Nat} {I : qh_I} {cc : ByteArray} {pc : Nat} {ls : List (Option Value)} {st : List Value} {τ : qh_H} {Q : qh_R → qh_H → Prop}
theorem qh_newZ {n : Int32} {N' : Nat} (e : I.2.1 = cc) (q : Cond.arrayClass .boolean ∈ lw_all) (hn : ¬ n < 0) (hN : n.toNatClampNeg = N') (hb : N' ≤ 100000) (hd : decode cc pc = .ok (.newarray .boolean, 2))
    (kk : ∀ a : Nat, τ a = none → g.2.2.1 a → qh_wp g d c I (pc + 2) ls (.ref a :: st) (qh_upd τ a (.inl (g.2.2.2.1 1, N', .inl (fun _ => 0)))) Q) : qh_wp g d (c + (N' + 1)) I pc ls (.int n :: st) τ Q := by
  intro p e0 s m args below meth cd lsA ws H locs cells slots mc C hl hc hT hP hD hS h1 h2
  have hts := C.2.2.2.2.2.2.1
  refine va_newa (atype := .boolean) (ty := .boolean) (a0 := (N', .inl (fun _ => 0))) C.1 (C.2.1.trans e) (hts _ q) rfl C.2.2.2.2.2.2.2.1 hP hD hS C.2.2.2.2.2.2.2.2.2.1 (fun _ => rfl) hn hN ?_ ?_ ?_ hd (fun a cA H1 hK1 hP1 hD1 hS1 => ?_)
  · show N' * 1 ≤ 536870912
    omega
  · show cells + 1 ≤ mc
    omega
  · show slots + N' ≤ mc
    omega
  · have hcA : cA = g.2.2.2.1 1 := qh_cls hK1 (t0 := 1) rfl
    subst hcA
    exact kk a (hT.push hD1).2 (qh_in hD1) p e0 s m args below meth cd lsA _ H1 locs (cells + 1) (slots + N') mc C hl hc (hT.push hD1).1 hP1 hD1 hS1 (by omega) (by omega)
theorem qh_newJ {n : Int32} {N' : Nat} (e : I.2.1 = cc) (q : Cond.arrayClass .long ∈ lw_all) (hn : ¬ n < 0) (hN : n.toNatClampNeg = N') (hb : N' ≤ 100000) (hd : decode cc pc = .ok (.newarray .long, 2))
    (kk : ∀ a : Nat, τ a = none → g.2.2.1 a → qh_wp g d c I (pc + 2) ls (.ref a :: st) (qh_upd τ a (.inl (g.2.2.2.1 2, N', .inr (.inl (fun _ => 0))))) Q) : qh_wp g d (c + (N' + 1)) I pc ls (.int n :: st) τ Q := by
  intro p e0 s m args below meth cd lsA ws H locs cells slots mc C hl hc hT hP hD hS h1 h2
  have hts := C.2.2.2.2.2.2.1
  refine va_newa (atype := .long) (ty := .long) (a0 := (N', .inr (.inl (fun _ => 0)))) C.1 (C.2.1.trans e) (hts _ q) rfl C.2.2.2.2.2.2.2.1 hP hD hS C.2.2.2.2.2.2.2.2.2.1 (fun _ => rfl) hn hN ?_ ?_ ?_ hd (fun a cA H1 hK1 hP1 hD1 hS1 => ?_)
  · show N' * 8 ≤ 536870912
    omega
  · show cells + 1 ≤ mc
    omega
  · show slots + N' ≤ mc
    omega
  · have hcA : cA = g.2.2.2.1 2 := qh_cls hK1 (t0 := 2) rfl
    subst hcA
    exact kk a (hT.push hD1).2 (qh_in hD1) p e0 s m args below meth cd lsA _ H1 locs (cells + 1) (slots + N') mc C hl hc (hT.push hD1).1 hP1 hD1 hS1 (by omega) (by omega)
theorem arrV_cg {cA : ClassId} {N : Nat} {f f' : Nat → Value} (hf : ∀ j, j < N → f j = f' j) : arrV cA N f = arrV cA N f' := by
  have e : (Array.ofFn (n := N) fun j => f j.val) = Array.ofFn (n := N) fun j => f' j.val := by
    apply Array.ext_getElem?
    intro j
    by_cases hj : j < N
    · rw [Array.getElem?_ofFn, dif_pos hj, Array.getElem?_ofFn, dif_pos hj, hf j hj]
    · rw [Array.getElem?_eq_none (by rw [Array.size_ofFn]; omega), Array.getElem?_eq_none (by rw [Array.size_ofFn]; omega)]
  unfold arrV
  rw [e]
theorem outerC_arrV {cA : ClassId} {N h0 : Nat} : ∀ i, ∃ f, Jvm.Free.Multi.outerC cA N h0 i = arrV cA N f
  | 0 => ⟨_, arrV_new cA N .null⟩
  | i + 1 => by
    obtain ⟨f, e⟩ := outerC_arrV (cA := cA) (N := N) (h0 := h0) i
    have h1 := arrV_store cA N i f (.ref (h0 + 1 + i))
    rw [← e] at h1
    exact ⟨_, h1⟩
theorem zz_out {cA : ClassId} {h0 : Nat} : Jvm.Free.Multi.outerC cA 6 h0 6 = vp_cell cA (6, .inr (.inr (.inr (.inr (fun j => some (h0 + 1 + j)))))) := by
  rw [vp_cell_q]
  obtain ⟨f, e⟩ := outerC_arrV (cA := cA) (N := 6) (h0 := h0) 6
  rw [e]
  refine arrV_cg fun j hj => ?_
  have h1 := Jvm.Free.Multi.outerC_slot cA 6 h0 6 j hj
  rw [e, arrV_read cA f hj, if_pos hj] at h1
  exact Option.some.inj h1
theorem zz_in {cA : ClassId} : Jvm.Free.Multi.innerC cA 3 (defaultValue .boolean) = vp_cell cA (3, .inl (fun _ => 0)) := arrV_new cA 3 (.int 0)
theorem vp_cell_cg {cA : ClassId} {n : Nat} {f f' : Nat → Option Nat} (hf : ∀ j, j < n → f j = f' j) : vp_cell cA (n, .inr (.inr (.inr (.inr f)))) = vp_cell cA (n, .inr (.inr (.inr (.inr f')))) := by
  rw [vp_cell_q, vp_cell_q]
  exact arrV_cg fun j hj => by rw [hf j hj]
/-- boolean[6][3]: its row of cells -/
def zz_row (cA : Nat → ClassId) (a : Nat) : List va_E := [.inl (cA 8, 6, .inr (.inr (.inr (.inr (fun j => some (a + 1 + j)))))), .inl (cA 1, 3, .inl (fun _ => 0)), .inl (cA 1, 3, .inl (fun _ => 0)), .inl (cA 1, 3, .inl (fun _ => 0)), .inl (cA 1, 3, .inl (fun _ => 0)), .inl (cA 1, 3, .inl (fun _ => 0)), .inl (cA 1, 3, .inl (fun _ => 0))]
theorem qh_newZZ {own : String} {index : Nat} (e : I.2.1 = cc) (ho : I.1.cls = own) (q : Cond.classLink own index "[[Z" ∈ lw_all) (hw : ∀ U, g.2.2.2.2 U → va_Nw (.arrayOver (.array .boolean)) U) (qz : Cond.arrayClass .boolean ∈ lw_all) (hd : decode cc pc = .ok (.multianewarray index 2, 4))
    (kk : ∀ a : Nat, qh_new1 g.2.2.1 τ a (zz_row g.2.2.2.1 a) → qh_wp g d c I (pc + 4) ls (.ref a :: st) (qh_psh τ a (zz_row g.2.2.2.1 a)) Q) : qh_wp g d (c + 31) I pc ls (.int 3 :: .int 6 :: st) τ Q := by
  intro p e0 s m args below meth cd lsA ws H locs cells slots mc C hl hc hT hP hD hS h1 h2 T hTH X
  have hts := C.2.2.2.2.2.2.1
  have hK : va_K g.2.1 qh_cl (qh_tys g.2.2.2.1) s := C.2.2.2.2.2.2.2.1
  have hA : ∀ q, s.heap.size ≤ q → g.2.2.1 q := C.2.2.2.2.2.2.2.2.2.1
  obtain ⟨vm₁, cA, comp, hW, hfA, hfC, X1, step⟩ := X.multianewarray2 (own := own) (index := index) (ty := .boolean) C.1 (ho ▸ C.2.2.2.2.2.1) (hts _ q) (hw s C.2.2.2.2.2.2.2.2.1) (hts _ qz) (g := F0 m pc lsA (.int 3 :: .int 6 :: st)) rfl (by rw [C.2.1.trans e]; exact hd) (n := 6) (k := 3) (rest := st) rfl (by decide) (by decide) (by decide) (by decide) (by decide) rfl rfl (by show cells + (1 + 6) ≤ mc; omega) (by show slots + (6 + 6 * 3) ≤ mc; omega)
  have e6 : (6 : Int32).toNatClampNeg = 6 := by decide
  have e3 : (3 : Int32).toNatClampNeg = 3 := by decide
  rw [e6, e3] at X1 step
  have c8 : cA = g.2.2.2.1 8 := Option.some.inj (hfA.symm.trans (hK.2 8 (g.2.2.2.1 8, .array .boolean) rfl).2)
  have c1 : comp = g.2.2.2.1 1 := Option.some.inj (hfC.symm.trans (hK.2 1 (g.2.2.2.1 1, .boolean) rfl).2)
  subst c8 c1
  subst hTH
  obtain ⟨f1, f2, -, -⟩ := Jvm.Free.Multi.fill_facts (T.setVm vm₁) (g.2.2.2.1 8) (g.2.2.2.1 1) 6 3 (defaultValue .boolean) 6
  have fo := fun (a : Addr) (ha : a < T.heap.size) => Jvm.Free.Multi.fill_old (T.setVm vm₁) (g.2.2.2.1 8) (g.2.2.2.1 1) 6 3 (defaultValue .boolean) (a := a) ha 6
  have fi := fun (j : Nat) (hj : j < 6) => Jvm.Free.Multi.fill_inner (T.setVm vm₁) (g.2.2.2.1 8) (g.2.2.2.1 1) 6 3 (defaultValue .boolean) 6 j hj
  have ho0 : Jvm.Free.Multi.outerC (g.2.2.2.1 8) 6 T.heap.size 6 = vp_cell (g.2.2.2.1 8) (6, .inr (.inr (.inr (.inr (fun j => some (T.heap.size + 1 + j)))))) := zz_out
  have hi0 : Jvm.Free.Multi.innerC (g.2.2.2.1 1) 3 (defaultValue .boolean) = vp_cell (g.2.2.2.1 1) (3, .inl (fun _ => 0)) := zz_in
  generalize hH1 : (Jvm.Free.Multi.fill (T.setVm vm₁) (g.2.2.2.1 8) (g.2.2.2.1 1) 6 3 (defaultValue .boolean) 6).heap = H1 at f1 f2 fo fi
  have f1 : H1.size = T.heap.size + 1 + 6 := f1
  have f2 : H1[T.heap.size]? = some (Jvm.Free.Multi.outerC (g.2.2.2.1 8) 6 T.heap.size 6) := f2
  have fo : ∀ a, a < T.heap.size → H1[a]? = T.heap[a]? := fo
  have fi : ∀ j, j < 6 → H1[T.heap.size + 1 + j]? = some (Jvm.Free.Multi.innerC (g.2.2.2.1 1) 3 (defaultValue .boolean)) := fi
  rw [ho0] at f2
  rw [hi0] at fi
  have hlt : ∀ (k : Nat) (q : Nat × va_E), ws[k]? = some q → q.1 < T.heap.size := fun k q hk => (hP k q hk).lt
  obtain ⟨t2, d2, n2⟩ := qh_rows (es := zz_row g.2.2.2.1 T.heap.size) (a := T.heap.size) hT hD hlt (fun j hj => hA j (Nat.le_trans hS.1 hj))
  have hP1 : va_P g.2.1 qh_cl (ws ++ qh_row T.heap.size (zz_row g.2.2.2.1 T.heap.size)) H1 := by
    refine (hP.kept fun k q hk => fo _ (hlt k q hk)).app fun k q hk => ?_
    obtain ⟨r1, r2⟩ := qh_row_at hk
    obtain ⟨qa, qe⟩ := q
    simp only at r1 r2
    subst r1
    match k, r2 with
    | 0, r2 => cases r2; exact f2
    | 1, r2 => cases r2; exact fi 0 (by decide)
    | 2, r2 => cases r2; exact fi 1 (by decide)
    | 3, r2 => cases r2; exact fi 2 (by decide)
    | 4, r2 => cases r2; exact fi 3 (by decide)
    | 5, r2 => cases r2; exact fi 4 (by decide)
    | 6, r2 => cases r2; exact fi 5 (by decide)
    | k + 7, r2 => cases r2
  have hS1 : va_S g.2.2.1 s.heap H1 (locs ++ (List.range 6).map fun j => ⟨T.heap.size, j⟩) := by
    refine ⟨Nat.le_trans hS.1 (by omega), fun q q1 q2 => (fo q (Nat.lt_of_lt_of_le q1 hS.1)).trans (hS.2.1 q q1 q2), fun l hl => ?_⟩
    rcases List.mem_append.mp hl with hl | hl
    · exact hS.2.2 l hl
    · obtain ⟨j, -, rfl⟩ := List.mem_map.mp hl
      exact hA _ hS.1
  obtain ⟨t, a1, b1⟩ := kk T.heap.size n2 p e0 s m args below meth cd lsA _ H1 _ (cells + 1 + 6) (slots + 6 + 6 * 3) mc C hl hc t2 hP1 d2 hS1 (by omega) (by omega) _ hH1 X1
  exact ⟨t, step t a1, b1⟩
/-- an array's numbers beyond its end are of no account -/
theorem qh_norm {a n k : Nat} {f f' : Nat → Option Nat} (ha : τ a = some (.inl (g.2.2.2.1 k, n, .inr (.inr (.inr (.inr f)))))) (hf : ∀ j, j < n → f j = f' j) (kk : qh_wp g d c I pc ls st (qh_upd τ a (.inl (g.2.2.2.1 k, n, .inr (.inr (.inr (.inr f')))))) Q) : qh_wp g d c I pc ls st τ Q := by
  intro p e0 s m args below meth cd lsA ws H locs cells slots mc C hl hc hT hP hD hS h1 h2
  obtain ⟨i, hi⟩ := hT a _ ha
  have ec := vp_cell_cg (cA := g.2.2.2.1 k) hf
  have hP1 : va_P g.2.1 qh_cl (ws.set i (a, .inl (g.2.2.2.1 k, n, .inr (.inr (.inr (.inr f')))))) H := hP.set hD hi (by
    show H[a]? = some (vp_cell (g.2.2.2.1 k) (n, .inr (.inr (.inr (.inr f')))))
    rw [← ec]
    exact hP i _ hi) (fun _ _ => rfl)
  exact kk p e0 s m args below meth cd lsA _ H locs cells slots mc C hl hc (hT.set hD hi) hP1 (hD.set hi) hS h1 h2
end
/-! level 1 -/
def qc_psh (h : qc_H) : Nat → List va_E → qc_H
  | _, [] => h
  | a, e :: r => qc_psh (qc_up h a (.inl e)) (a + 1) r
def qc_new1 (h : qc_H) : Nat → List va_E → Prop
  | _, [] => True
  | a, e :: r => h a = none ∧ qc_new1 (qc_up h a (.inl e)) (a + 1) r
theorem qc_R.rows {g : qh_G} {x : qc_X} (hO : qc_O g x) : ∀ {es : List va_E} {a : Nat} {h : qc_H} {τ : qh_H}, qc_R g x h τ → qh_new1 g.2.2.1 τ a es → qc_R g x (qc_psh h a es) (qh_psh τ a es) ∧ qc_new1 h a es
  | [], a, h, τ, hR, _ => ⟨hR, trivial⟩
  | e :: r, a, h, τ, hR, n => by
    obtain ⟨n1, n2, n3⟩ := n
    obtain ⟨h1, h2⟩ := hR.new (e := e) hO n1 n2
    obtain ⟨h3, h4⟩ := qc_R.rows hO (es := r) (a := a + 1) h2 n3
    exact ⟨h3, h1, h4⟩
section
variable {g : qh_G} {x : qc_X} {d c : Nat} {I : qh_I} {cc : ByteArray} {pc : Nat} {ls : List (Option Value)} {st : List Value} {h : qc_H} {Q : qh_R → qc_H → Prop}
def eNZ (cA : Nat → ClassId) (h : qc_H) (n : Int32) (c : Nat) (K : Nat → qc_H → Nat → Prop) : Prop := ¬ n < 0 ∧ n.toNatClampNeg ≤ 100000 ∧ ∃ c' : Nat, c = c' + (n.toNatClampNeg + 1) ∧ ∀ a : Nat, h a = none → K a (qc_up h a (.inl (.inl (cA 1, n.toNatClampNeg, .inl (fun _ => 0))))) c'
def eNJ (cA : Nat → ClassId) (h : qc_H) (n : Int32) (c : Nat) (K : Nat → qc_H → Nat → Prop) : Prop := ¬ n < 0 ∧ n.toNatClampNeg ≤ 100000 ∧ ∃ c' : Nat, c = c' + (n.toNatClampNeg + 1) ∧ ∀ a : Nat, h a = none → K a (qc_up h a (.inl (.inl (cA 2, n.toNatClampNeg, .inr (.inl (fun _ => 0)))))) c'
def eNM (cA : Nat → ClassId) (h : qc_H) (c : Nat) (K : Nat → qc_H → Nat → Prop) : Prop := ∃ c' : Nat, c = c' + 31 ∧ ∀ a : Nat, qc_new1 h a (zz_row cA a) → K a (qc_psh h a (zz_row cA a)) c'
theorem re_newZ {K : Nat → qc_H → Nat → Prop} {n : Int32} (hO : qc_O g x) (e : I.2.1 = cc) (q : Cond.arrayClass .boolean ∈ lw_all) (hd : decode cc pc = .ok (.newarray .boolean, 2)) (hh : eNZ g.2.2.2.1 h n c K)
    (kk : ∀ a h' c', K a h' c' → qc_wp g x d c' I (pc + 2) ls (.ref a :: st) h' Q) : qc_wp g x d c I pc ls (.int n :: st) h Q := by
  obtain ⟨h1, h2, c', rfl, h3⟩ := hh
  intro τ hR
  exact qh_newZ e q h1 rfl h2 hd fun a n1 n2 => kk a _ c' (h3 a (hR.new (e := .inl (g.2.2.2.1 1, n.toNatClampNeg, .inl (fun _ => 0))) hO n1 n2).1) _ (hR.new hO n1 n2).2
theorem re_newJ {K : Nat → qc_H → Nat → Prop} {n : Int32} (hO : qc_O g x) (e : I.2.1 = cc) (q : Cond.arrayClass .long ∈ lw_all) (hd : decode cc pc = .ok (.newarray .long, 2)) (hh : eNJ g.2.2.2.1 h n c K)
    (kk : ∀ a h' c', K a h' c' → qc_wp g x d c' I (pc + 2) ls (.ref a :: st) h' Q) : qc_wp g x d c I pc ls (.int n :: st) h Q := by
  obtain ⟨h1, h2, c', rfl, h3⟩ := hh
  intro τ hR
  exact qh_newJ e q h1 rfl h2 hd fun a n1 n2 => kk a _ c' (h3 a (hR.new (e := .inl (g.2.2.2.1 2, n.toNatClampNeg, .inr (.inl (fun _ => 0)))) hO n1 n2).1) _ (hR.new hO n1 n2).2
theorem re_newM {K : Nat → qc_H → Nat → Prop} {own : String} {index : Nat} (hO : qc_O g x) (e : I.2.1 = cc) (ho : I.1.cls = own) (q : Cond.classLink own index "[[Z" ∈ lw_all) (hw : Cond.arrayOver (.array .boolean) ∈ qc_N) (qz : Cond.arrayClass .boolean ∈ lw_all) (hd : decode cc pc = .ok (.multianewarray index 2, 4)) (hh : eNM g.2.2.2.1 h c K)
    (kk : ∀ a h' c', K a h' c' → qc_wp g x d c' I (pc + 4) ls (.ref a :: st) h' Q) : qc_wp g x d c I pc ls (.int 3 :: .int 6 :: st) h Q := by
  obtain ⟨c', rfl, h3⟩ := hh
  intro τ hR
  refine qh_newZZ e ho q (hO.2.1 _ hw) qz hd fun a n => ?_
  obtain ⟨r1, r2⟩ := hR.rows hO n
  exact kk a _ c' (h3 a r2) _ r1
theorem qc_norm {a n k : Nat} {f f' : Nat → Option Nat} (ha : h a = some (.inl (.inl (g.2.2.2.1 k, n, .inr (.inr (.inr (.inr f))))))) (hf : ∀ j, j < n → f j = f' j) (kk : qc_wp g x d c I pc ls st (qc_up h a (.inl (.inl (g.2.2.2.1 k, n, .inr (.inr (.inr (.inr f'))))))) Q) : qc_wp g x d c I pc ls st h Q := by
  intro τ hR
  have ht := hR.arr ha
  exact qh_norm ht hf (kk _ (hR.put ha (fun z => z) (by rw [ht]; intro z; cases z)))
end
