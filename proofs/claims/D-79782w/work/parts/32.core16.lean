/-! CORE 16: what the component asks of the stable part of the world beyond qc_O -/
set_option maxRecDepth 100000
def qp_nw : Cond → Bool := fun w => match w with
  | .interfaceMethod _ _ _ _ => true
  | .publicMethod _ => true
  | .unhidden _ _ _ => true
  | .declares _ => true
  | .castable _ _ => true
  | _ => false
def qp_df : List (String × MethodName) := [("QueryHarbor$Tables", ⟨"QueryHarbor$Store", "isFit", "(II)Z"⟩), ("QueryHarbor$Tables", ⟨"QueryHarbor$Store", "kept", "(II)I"⟩), ("QueryHarbor$Tables", ⟨"QueryHarbor$Store", "columns", "()I"⟩), ("QueryHarbor$Tables", ⟨"QueryHarbor$Store", "freight", "()I"⟩), ("QueryHarbor$KeyStore", ⟨"QueryHarbor$Store", "hasKey", "()Z"⟩), ("QueryHarbor$KeyStore", ⟨"QueryHarbor$Store", "freight", "()I"⟩), ("QueryHarbor$DocumentStore", ⟨"QueryHarbor$Store", "hasKey", "()Z"⟩), ("QueryHarbor$DocumentStore", ⟨"QueryHarbor$Store", "kept", "(II)I"⟩), ("QueryHarbor$DocumentStore", ⟨"QueryHarbor$Store", "columns", "()I"⟩)]
def qp_nc : List (String × String) := [("QueryHarbor$NoAnswer", "QueryHarbor$Failed"), ("java/lang/IllegalArgumentException", "java/lang/IndexOutOfBoundsException"), ("java/lang/IllegalStateException", "java/lang/IndexOutOfBoundsException"), ("java/lang/IllegalStateException", "java/lang/IllegalArgumentException")]
def qp_N : List Cond := lw_tbl.filter qp_nw ++ qp_df.map fun q => .landsInDefault q.1 q.2 q.2
/-- sd: the addresses of the texts, by class and constant index -/
def qc_P (g : qh_G) (ts : List (String × Nat × String)) (sd : String → Nat → Nat) : Prop := g.1.stackTraces = false ∧ (∀ w ∈ qp_N, ∀ U, g.2.2.2.2 U → va_Nw w U) ∧ (∀ q ∈ qp_nc, ∀ U, g.2.2.2.2 U → va_Nc q.1 q.2 U) ∧ (∀ U, g.2.2.2.2 U → vx_Zq Bundle.tN "UNASSIGNED_STACK" Bundle.steD g.2.2.1 U U.heap) ∧ (∀ U, g.2.2.2.2 U → vx_Zq Bundle.tN "SUPPRESSED_SENTINEL" Bundle.listD g.2.2.1 U U.heap) ∧ ∀ q ∈ ts, ∀ U, g.2.2.2.2 U → vk_R q.1 q.2.1 q.2.2 (sd q.1 q.2.1) U
theorem qp_n {w : Cond} (h : w ∈ lw_tbl) (k : qp_nw w = true) : w ∈ qp_N := List.mem_append_left _ (List.mem_filter.mpr ⟨h, k⟩)
theorem qp_d {q : String × MethodName} (h : q ∈ qp_df) : Cond.landsInDefault q.1 q.2 q.2 ∈ qp_N := List.mem_append_right _ (List.mem_map.mpr ⟨q, h, rfl⟩)
theorem qp_F {g : qh_G} {ts : List (String × Nat × String)} {sd : String → Nat → Nat} (hP : qc_P g ts sd) {C : String} {x y : MethodName} (h1 : Cond.declares x ∈ lw_tbl) (h2 : Cond.interfaceMethod x.cls x.cls x.name x.desc ∈ lw_tbl) (h3 : Cond.publicMethod y ∈ lw_tbl) (h4 : Cond.unhidden C x.name x.desc ∈ lw_tbl) (h5 : Cond.castable C x.cls ∈ lw_tbl) : ∀ U, g.2.2.2.2 U → va_Fw C x y U := fun U hU => ⟨hP.2.1 _ (qp_n h1 rfl) U hU, hP.2.1 _ (qp_n h2 rfl) U hU, hP.2.1 _ (qp_n h3 rfl) U hU, hP.2.1 _ (qp_n h4 rfl) U hU, hP.2.1 _ (qp_n h5 rfl) U hU⟩
theorem qp_D {g : qh_G} {ts : List (String × Nat × String)} {sd : String → Nat → Nat} (hP : qc_P g ts sd) {C : String} {x : MethodName} (h0 : (C, x) ∈ qp_df) (h1 : Cond.declares x ∈ lw_tbl) (h2 : Cond.interfaceMethod x.cls x.cls x.name x.desc ∈ lw_tbl) (h3 : Cond.publicMethod x ∈ lw_tbl) (h5 : Cond.castable C x.cls ∈ lw_tbl) : ∀ U, g.2.2.2.2 U → qd_F C x x U := fun U hU => ⟨hP.2.1 _ (qp_n h1 rfl) U hU, hP.2.1 _ (qp_n h2 rfl) U hU, hP.2.1 _ (qp_n h3 rfl) U hU, hP.2.1 _ (qp_n h5 rfl) U hU, hP.2.1 _ (qp_d h0) U hU⟩
