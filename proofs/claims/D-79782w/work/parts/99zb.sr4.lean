/-! SR 4: the script, read -/
set_option maxRecDepth 100000
/-- the script of L ints xs lies at b, and stays -/
def qw_S (g : qh_G) (b L : Nat) (xs : Nat → Int32) : Prop := ¬ g.2.2.1 b ∧ ∀ U, g.2.2.2.2 U → b < U.heap.size ∧ va_X b L xs U U.heap
def eSx (L : Nat) (xs : Nat → Int32) (i : Int32) (K : Int32 → Prop) : Prop := vp_in i L ∧ K (xs i.toNatClampNeg)
def eSl (L : Nat) (K : Int32 → Prop) : Prop := K (Int32.ofNat L)
section
variable {g : qh_G} {x : qc_X} {d c : Nat} {I : qh_I} {cc : ByteArray} {pc : Nat} {ls : List (Option Value)} {st : List Value} {h : qc_H} {Q : qh_R → qc_H → Prop} {b L : Nat} {xs : Nat → Int32}
theorem re_sald {i : Int32} {K : Int32 → Prop} (e : I.2.1 = cc) (hS : qw_S g b L xs) (hd : decode cc pc = .ok (.iaload, 1)) (hh : eSx L xs i K) (kk : ∀ v, K v → qc_wp g x d c I (pc + 1) ls (.int v :: st) h Q) : qc_wp g x d c I pc ls (.int i :: .ref b :: st) h Q := by
  intro τ hR p e0 s m args below meth cd lsA ws H locs cells slots mc C hl hc hT hP hD hS' h1 h2
  obtain ⟨h3, h4⟩ := hS.2 s C.2.2.2.2.2.2.2.2.1
  exact va_sld C.1 (C.2.1.trans e) h4 h3 hS.1 hS' hh.1 hd (kk _ hh.2 τ hR p e0 s m args below meth cd lsA ws H locs cells slots mc C hl hc hT hP hD hS' h1 h2)
theorem re_slen {K : Int32 → Prop} (e : I.2.1 = cc) (hS : qw_S g b L xs) (hd : decode cc pc = .ok (.arraylength, 1)) (hh : eSl L K) (kk : ∀ v, K v → qc_wp g x d c I (pc + 1) ls (.int v :: st) h Q) : qc_wp g x d c I pc ls (.ref b :: st) h Q := by
  intro τ hR p e0 s m args below meth cd lsA ws H locs cells slots mc C hl hc hT hP hD hS' h1 h2
  obtain ⟨h3, h4⟩ := hS.2 s C.2.2.2.2.2.2.2.2.1
  exact va_slen C.1 (C.2.1.trans e) h4 h3 hS.1 hS' hd (kk _ hh τ hR p e0 s m args below meth cd lsA ws H locs cells slots mc C hl hc hT hP hD hS' h1 h2)
end
theorem qm_sw35 {x : Int32} (h0 : ¬ x = 0) (h1 : ¬ x = 1) (h2 : ¬ x = 2) (h3 : ¬ x = 3) (h4 : ¬ x = 4) (h5 : ¬ x = 5) (h6 : ¬ x = 6) (h7 : ¬ x = 7) (h8 : ¬ x = 8) (h9 : ¬ x = 9) (h10 : ¬ x = 10) (h11 : ¬ x = 11) (h12 : ¬ x = 12) (h13 : ¬ x = 13) (h14 : ¬ x = 14) (h15 : ¬ x = 15) (h16 : ¬ x = 16) (h17 : ¬ x = 17) (h18 : ¬ x = 18) (h19 : ¬ x = 19) (h20 : ¬ x = 20) (h21 : ¬ x = 21) (h22 : ¬ x = 22) (h23 : ¬ x = 23) (h24 : ¬ x = 24) (h25 : ¬ x = 25) (h26 : ¬ x = 26) (h27 : ¬ x = 27) (h28 : ¬ x = 28) (h29 : ¬ x = 29) (h30 : ¬ x = 30) (h31 : ¬ x = 31) (h32 : ¬ x = 32) (h33 : ¬ x = 33) (h34 : ¬ x = 34) : x.toInt < 0 ∨ 34 < x.toInt := by
  by_cases h : x.toInt < 0
  · exact Or.inl h
  · by_cases h' : 34 < x.toInt
    · exact Or.inr h'
    · exfalso
      have : x.toInt = 0 ∨ x.toInt = 1 ∨ x.toInt = 2 ∨ x.toInt = 3 ∨ x.toInt = 4 ∨ x.toInt = 5 ∨ x.toInt = 6 ∨ x.toInt = 7 ∨ x.toInt = 8 ∨ x.toInt = 9 ∨ x.toInt = 10 ∨ x.toInt = 11 ∨ x.toInt = 12 ∨ x.toInt = 13 ∨ x.toInt = 14 ∨ x.toInt = 15 ∨ x.toInt = 16 ∨ x.toInt = 17 ∨ x.toInt = 18 ∨ x.toInt = 19 ∨ x.toInt = 20 ∨ x.toInt = 21 ∨ x.toInt = 22 ∨ x.toInt = 23 ∨ x.toInt = 24 ∨ x.toInt = 25 ∨ x.toInt = 26 ∨ x.toInt = 27 ∨ x.toInt = 28 ∨ x.toInt = 29 ∨ x.toInt = 30 ∨ x.toInt = 31 ∨ x.toInt = 32 ∨ x.toInt = 33 ∨ x.toInt = 34 := by omega
      rcases this with e | e | e | e | e | e | e | e | e | e | e | e | e | e | e | e | e | e | e | e | e | e | e | e | e | e | e | e | e | e | e | e | e | e | e
      · exact h0 (Int32.toInt_inj.mp (e.trans (by decide)))
      · exact h1 (Int32.toInt_inj.mp (e.trans (by decide)))
      · exact h2 (Int32.toInt_inj.mp (e.trans (by decide)))
      · exact h3 (Int32.toInt_inj.mp (e.trans (by decide)))
      · exact h4 (Int32.toInt_inj.mp (e.trans (by decide)))
      · exact h5 (Int32.toInt_inj.mp (e.trans (by decide)))
      · exact h6 (Int32.toInt_inj.mp (e.trans (by decide)))
      · exact h7 (Int32.toInt_inj.mp (e.trans (by decide)))
      · exact h8 (Int32.toInt_inj.mp (e.trans (by decide)))
      · exact h9 (Int32.toInt_inj.mp (e.trans (by decide)))
      · exact h10 (Int32.toInt_inj.mp (e.trans (by decide)))
      · exact h11 (Int32.toInt_inj.mp (e.trans (by decide)))
      · exact h12 (Int32.toInt_inj.mp (e.trans (by decide)))
      · exact h13 (Int32.toInt_inj.mp (e.trans (by decide)))
      · exact h14 (Int32.toInt_inj.mp (e.trans (by decide)))
      · exact h15 (Int32.toInt_inj.mp (e.trans (by decide)))
      · exact h16 (Int32.toInt_inj.mp (e.trans (by decide)))
      · exact h17 (Int32.toInt_inj.mp (e.trans (by decide)))
      · exact h18 (Int32.toInt_inj.mp (e.trans (by decide)))
      · exact h19 (Int32.toInt_inj.mp (e.trans (by decide)))
      · exact h20 (Int32.toInt_inj.mp (e.trans (by decide)))
      · exact h21 (Int32.toInt_inj.mp (e.trans (by decide)))
      · exact h22 (Int32.toInt_inj.mp (e.trans (by decide)))
      · exact h23 (Int32.toInt_inj.mp (e.trans (by decide)))
      · exact h24 (Int32.toInt_inj.mp (e.trans (by decide)))
      · exact h25 (Int32.toInt_inj.mp (e.trans (by decide)))
      · exact h26 (Int32.toInt_inj.mp (e.trans (by decide)))
      · exact h27 (Int32.toInt_inj.mp (e.trans (by decide)))
      · exact h28 (Int32.toInt_inj.mp (e.trans (by decide)))
      · exact h29 (Int32.toInt_inj.mp (e.trans (by decide)))
      · exact h30 (Int32.toInt_inj.mp (e.trans (by decide)))
      · exact h31 (Int32.toInt_inj.mp (e.trans (by decide)))
      · exact h32 (Int32.toInt_inj.mp (e.trans (by decide)))
      · exact h33 (Int32.toInt_inj.mp (e.trans (by decide)))
      · exact h34 (Int32.toInt_inj.mp (e.trans (by decide)))
