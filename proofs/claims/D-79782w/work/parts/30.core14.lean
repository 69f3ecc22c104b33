/-! CORE 14: handlers: a caught exception's reference is a bare one -/
set_option maxRecDepth 100000
section
variable {g : qh_G} {d c : Nat} {I : qh_I} {cc : ByteArray} {pc : Nat} {ls : List (Option Value)} {st : List Value} {τ : qh_H} {Q : qh_R → qh_H → Prop}
/-- a handler with a type -/
theorem qh_catch {own name E : String} (ho : I.1.cls = own) (pre : List ExceptionTableEntry) (x : ExceptionTableEntry) (suf : List ExceptionTableEntry) (hsplit : tableOf I.2.2.2.2 = pre ++ x :: suf)
    (hpass : ∀ z ∈ pre, covers z pc = false ∨ (z.catchType ≠ 0 ∧ ∃ nm : String, Cond.classLink own z.catchType nm ∈ lw_all ∧ ∀ U, g.2.2.2.2 U → va_Nc E nm U)) (hx : covers x pc = true) (h0 : x.catchType ≠ 0)
    (hlink : Cond.classLink own x.catchType name ∈ lw_all) (hcast : ∀ U, g.2.2.2.2 U → va_Nw (.castable E name) U)
    (kk : ∀ q : Nat, qh_wp g d c I x.handlerPc ls [.ref q] τ Q) : qh_wx g d c I pc ls E τ Q := by
  intro p e0 s m args below meth cd lsA ws H locs cells slots mc rest q ce C hl hc hT hP hD hS h1 h2 hq hv hcl
  have hts := C.2.2.2.2.2.2.1
  have hXs := C.2.2.2.2.2.2.2.2.1
  refine vx_catch (ho ▸ C.2.2.2.2.2.1) pre x suf (C.2.2.2.2.2.2.2.2.2.2.2.1.trans hsplit) (fun z hz => ?_) hx h0 (hts _ hlink) (va_Nw.use rfl (hcast s hXs)) hq hv hcl (kk q p e0 s m args below meth cd lsA ws H locs cells slots mc C hl hc hT hP hD hS h1 h2)
  rcases hpass z hz with q1 | ⟨q1, nm, q2, q3⟩
  · exact Or.inl q1
  · exact Or.inr ⟨q1, nm, hts _ q2, q3 s hXs⟩
end
