/-! CORE 13 (printed by mk_core13.py): throw new X(text) that leaves the method -/
set_option maxRecDepth 100000
section
variable {g : qh_G} {d c : Nat} {I : qh_I} {cc : ByteArray} {pc : Nat} {ls : List (Option Value)} {st : List Value} {τ : qh_H} {Q : qh_R → qh_H → Prop}
theorem qh_throw {own cls text : String} {names : List String} {ik is ic sa : Nat} (e : I.2.1 = cc) (ho : I.1.cls = own) (hl : g.1.stackTraces = false) (hcls : Bundle.fit cls = true) (hnames : ∀ n ∈ names, Bundle.fit n = true) (hk : Cond.classLink own ik cls ∈ lw_all) (hini : Cond.initialized cls ∈ lw_all) (hstr : ∀ U, g.2.2.2.2 U → vk_R own is text sa U) (hat : ∀ w ∈ vx_atS own ic cls names, w ∈ lw_all ∨ (w.onTables = true ∧ ∀ U, g.2.2.2.2 U → va_Nw w U)) (hgood : ∀ w ∈ Cond.classLink own ik cls :: Cond.initialized cls :: vx_atS own ic cls names, vx_ot w = true)
    (hU : ∀ U, g.2.2.2.2 U → vx_Zq Bundle.tN "UNASSIGNED_STACK" Bundle.steD g.2.2.1 U U.heap) (hN : ∀ U, g.2.2.2.2 U → vx_Zq Bundle.tN "SUPPRESSED_SENTINEL" Bundle.listD g.2.2.1 U U.heap)
    (d0 : decode cc pc = .ok (.new ik, 3)) (d3 : decode cc (pc + 3) = .ok (.dup, 1)) (d4 : decode cc (pc + 4) = .ok (.ldc is, 2)) (d6 : decode cc (pc + 6) = .ok (.invokespecial ic, 3)) (d9 : decode cc (pc + 9) = .ok (.athrow, 1))
    (hout : ∀ x ∈ tableOf I.2.2.2.2, covers x (pc + 9) = false) (hlen : names.length ≤ 5) (hw : (st.map fun v => v.category).sum ≤ 8) (hq : Q (.inr cls) τ) : qh_wp g d (c + 6) I pc ls st τ Q := by
  intro p e0 s m args below meth cd lsA ws H locs cells slots mc C hl' hc hT hP hD hS h1 h2
  have hts := C.2.2.2.2.2.2.1
  have hXs := C.2.2.2.2.2.2.2.2.1
  refine vx_throwS C.1 (C.2.1.trans e) hl (ho ▸ C.2.2.2.2.2.1) hcls hnames (hts _ hk) (hts _ hini) (hstr s hXs) (fun w hw9 => ?_) hgood (hU s hXs) (hN s hXs) hS (hl'.1.trans C.2.2.2.2.1.symm) d0 d3 d4 d6 d9 ?_ ?_ ?_ ?_ ?_ C.2.2.2.1 (fun t hvm hsz hkeep => ?_) hS.2.2 (by omega) (by omega)
  · rcases hat w hw9 with q | ⟨q1, q2⟩
    · exact hts _ q
    · exact va_Nw.use q1 (q2 s hXs)
  · rw [C.2.2.2.2.2.2.2.2.2.2.2.1]
    exact hout
  · show names.length + 3 < d + 10
    omega
  · show _ + (13 * (names.length + 1) + 43) ≤ 200 * d + 400
    omega
  · show cells + 1 ≤ mc
    omega
  · show slots + 6 ≤ mc
    omega
  · refine ⟨τ, hq, ⟨ws, hT, hP.kept fun k q hk9 => hkeep _ (vx_lt hP hk9), hD⟩, Nat.le_trans hS.1 hsz, fun q q1 q2 => ?_⟩
    rw [hkeep q (Nat.lt_of_lt_of_le q1 hS.1)]
    exact hS.2.1 q q1 q2
theorem qh_throwW {own cls text : String} {names : List String} {ik is ic sa : Nat} (e : I.2.1 = cc) (ho : I.1.cls = own) (hl : g.1.stackTraces = false) (hcls : Bundle.fit cls = true) (hnames : ∀ n ∈ names, Bundle.fit n = true) (hk : Cond.classLink own ik cls ∈ lw_all) (hini : Cond.initialized cls ∈ lw_all) (hstr : ∀ U, g.2.2.2.2 U → vk_R own is text sa U) (hat : ∀ w ∈ vx_atS own ic cls names, w ∈ lw_all ∨ (w.onTables = true ∧ ∀ U, g.2.2.2.2 U → va_Nw w U)) (hgood : ∀ w ∈ Cond.classLink own ik cls :: Cond.initialized cls :: vx_atS own ic cls names, vx_ot w = true)
    (hU : ∀ U, g.2.2.2.2 U → vx_Zq Bundle.tN "UNASSIGNED_STACK" Bundle.steD g.2.2.1 U U.heap) (hN : ∀ U, g.2.2.2.2 U → vx_Zq Bundle.tN "SUPPRESSED_SENTINEL" Bundle.listD g.2.2.1 U U.heap)
    (d0 : decode cc pc = .ok (.new ik, 3)) (d3 : decode cc (pc + 3) = .ok (.dup, 1)) (d4 : decode cc (pc + 4) = .ok (.ldc_w is, 3)) (d6 : decode cc (pc + 7) = .ok (.invokespecial ic, 3)) (d9 : decode cc (pc + 10) = .ok (.athrow, 1))
    (hout : ∀ x ∈ tableOf I.2.2.2.2, covers x (pc + 10) = false) (hlen : names.length ≤ 5) (hw : (st.map fun v => v.category).sum ≤ 8) (hq : Q (.inr cls) τ) : qh_wp g d (c + 6) I pc ls st τ Q := by
  intro p e0 s m args below meth cd lsA ws H locs cells slots mc C hl' hc hT hP hD hS h1 h2
  have hts := C.2.2.2.2.2.2.1
  have hXs := C.2.2.2.2.2.2.2.2.1
  refine vx_throwSW C.1 (C.2.1.trans e) hl (ho ▸ C.2.2.2.2.2.1) hcls hnames (hts _ hk) (hts _ hini) (hstr s hXs) (fun w hw9 => ?_) hgood (hU s hXs) (hN s hXs) hS (hl'.1.trans C.2.2.2.2.1.symm) d0 d3 d4 d6 d9 ?_ ?_ ?_ ?_ ?_ C.2.2.2.1 (fun t hvm hsz hkeep => ?_) hS.2.2 (by omega) (by omega)
  · rcases hat w hw9 with q | ⟨q1, q2⟩
    · exact hts _ q
    · exact va_Nw.use q1 (q2 s hXs)
  · rw [C.2.2.2.2.2.2.2.2.2.2.2.1]
    exact hout
  · show names.length + 3 < d + 10
    omega
  · show _ + (13 * (names.length + 1) + 43) ≤ 200 * d + 400
    omega
  · show cells + 1 ≤ mc
    omega
  · show slots + 6 ≤ mc
    omega
  · refine ⟨τ, hq, ⟨ws, hT, hP.kept fun k q hk9 => hkeep _ (vx_lt hP hk9), hD⟩, Nat.le_trans hS.1 hsz, fun q q1 q2 => ?_⟩
    rw [hkeep q (Nat.lt_of_lt_of_le q1 hS.1)]
    exact hS.2.1 q q1 q2
end
