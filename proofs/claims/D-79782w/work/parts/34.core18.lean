/-! CORE 18: the classes of the component, as qh_K -/
set_option maxRecDepth 100000
theorem ck_X1 : qh_K 0 RX1 TX1 16 tyX1 := ⟨rfl, in_X1, tyX1_ok, nmX1⟩
theorem ck_X2 : qh_K 1 RX2 TX2 10 tyX2 := ⟨rfl, in_X2, tyX2_ok, nmX2⟩
theorem ck_X6 : qh_K 5 RX6 TX6 7 tyX6 := ⟨rfl, in_X6, tyX6_ok, nmX6⟩
theorem ck_X7 : qh_K 6 RX7 TX7 6 tyX7 := ⟨rfl, in_X7, tyX7_ok, nmX7⟩
theorem ck_X9 : qh_K 8 RX9 TX9 2 tyX9 := ⟨rfl, in_X9, tyX9_ok, nmX9⟩
theorem ck_X10 : qh_K 9 RX10 TX10 3 tyX10 := ⟨rfl, in_X10, tyX10_ok, nmX10⟩
theorem ck_X11 : qh_K 10 RX11 TX11 4 tyX11 := ⟨rfl, in_X11, tyX11_ok, nmX11⟩
theorem ck_X12 : qh_K 11 RX12 TX12 4 tyX12 := ⟨rfl, in_X12, tyX12_ok, nmX12⟩
theorem ck_X13 : qh_K 12 RX13 TX13 2 tyX13 := ⟨rfl, in_X13, tyX13_ok, nmX13⟩
theorem ck_X14 : qh_K 13 RX14 TX14 11 tyX14 := ⟨rfl, in_X14, tyX14_ok, nmX14⟩
theorem ck_X17 : qh_K 14 RX17 TX17 5 tyX17 := ⟨rfl, in_X17, tyX17_ok, nmX17⟩
theorem ck_X18 : qh_K 15 RX18 TX18 4 tyX18 := ⟨rfl, in_X18, tyX18_ok, nmX18⟩
