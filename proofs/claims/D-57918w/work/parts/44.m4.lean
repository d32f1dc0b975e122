/-! THE REFERENCE 4: queries -/
set_option maxRecDepth 100000
set_option maxHeartbeats 4000000 in
theorem m_thrown (l : Launch) (D : va_G) (h : Nat → Nat) (cI : ClassId) (f : Nat → Int32) (g : Nat → Nat → Int32) : pm_C l yX4_thrown (ws_ yX4_thrown cX4_thrown 1 (some .int)) ({ frames := 0, cells := 0, slots := 0, locals := 0 } : Room) D h cI [.ref (h 0)] f g (some (.int (f 0))) f g := by
  refine pm_enter (cc := cX4_thrown) (maxL := 1) (ret := (some .int)) (by decide) (Nat.le_of_ble_eq_true rfl) ?_
  intro p e s m below meth c A Qc ls hx hb hml hown hts hlk hA hK hP hD hS hr hq hl
  have hl : lv_has ls 1 [(0, .ref (h 0))] := hl
  refine lv_aload_n hx hb dX4_thrown_0 rfl (lv_at hl 0 rfl) ?_
  refine va_get (D := D) (ci := 0) (v := .int (f 0)) (C := RX4) (T := TX4) (N := 22) hx hb hts in_X4 hown hK hP 0 rfl rfl 0 (by decide) (hts _ q2482) (fun _ h9 => h9) rfl dX4_thrown_1 ?_
  exact pm_retI hx hb hlk hr hq hP hD hS dX4_thrown_4 rfl rfl

set_option maxHeartbeats 4000000 in
theorem m_errorCode (l : Launch) (D : va_G) (h : Nat → Nat) (cI : ClassId) (f : Nat → Int32) (g : Nat → Nat → Int32) : pm_C l yX4_errorCode (ws_ yX4_errorCode cX4_errorCode 1 (some .int)) ({ frames := 0, cells := 0, slots := 0, locals := 0 } : Room) D h cI [.ref (h 0)] f g (some (.int (f 16))) (va_up f 0 (nI 0)) g := by
  refine pm_enter (cc := cX4_errorCode) (maxL := 1) (ret := (some .int)) (by decide) (Nat.le_of_ble_eq_true rfl) ?_
  intro p e s m below meth c A Qc ls hx hb hml hown hts hlk hA hK hP hD hS hr hq hl
  have hl : lv_has ls 1 [(0, .ref (h 0))] := hl
  refine lv_aload_n hx hb dX4_errorCode_0 rfl (lv_at hl 0 rfl) ?_
  refine lv_iconst (v := nI 0) hx hb dX4_errorCode_1 (by decide) ?_
  refine pm_put0 (f := f) (f2 := (va_up f 0 (nI 0))) hx hb hts hown hK hP hD hS (hts _ q2482) rfl dX4_errorCode_2 (fun H locs hP hD hS => ?_)
  refine lv_aload_n hx hb dX4_errorCode_5 rfl (lv_at hl 0 rfl) ?_
  refine va_get (D := D) (ci := 0) (v := .int (f 16)) (C := RX4) (T := TX4) (N := 22) hx hb hts in_X4 hown hK hP 0 rfl rfl 16 (by decide) (hts _ q2498) (fun _ h9 => h9) rfl dX4_errorCode_6 ?_
  exact pm_retI hx hb hlk hr hq hP hD hS dX4_errorCode_9 rfl rfl

set_option maxHeartbeats 4000000 in
theorem m_errorOffset (l : Launch) (D : va_G) (h : Nat → Nat) (cI : ClassId) (f : Nat → Int32) (g : Nat → Nat → Int32) : pm_C l yX4_errorOffset (ws_ yX4_errorOffset cX4_errorOffset 1 (some .int)) ({ frames := 0, cells := 0, slots := 0, locals := 0 } : Room) D h cI [.ref (h 0)] f g (some (.int (f 17))) (va_up f 0 (nI 0)) g := by
  refine pm_enter (cc := cX4_errorOffset) (maxL := 1) (ret := (some .int)) (by decide) (Nat.le_of_ble_eq_true rfl) ?_
  intro p e s m below meth c A Qc ls hx hb hml hown hts hlk hA hK hP hD hS hr hq hl
  have hl : lv_has ls 1 [(0, .ref (h 0))] := hl
  refine lv_aload_n hx hb dX4_errorOffset_0 rfl (lv_at hl 0 rfl) ?_
  refine lv_iconst (v := nI 0) hx hb dX4_errorOffset_1 (by decide) ?_
  refine pm_put0 (f := f) (f2 := (va_up f 0 (nI 0))) hx hb hts hown hK hP hD hS (hts _ q2482) rfl dX4_errorOffset_2 (fun H locs hP hD hS => ?_)
  refine lv_aload_n hx hb dX4_errorOffset_5 rfl (lv_at hl 0 rfl) ?_
  refine va_get (D := D) (ci := 0) (v := .int (f 17)) (C := RX4) (T := TX4) (N := 22) hx hb hts in_X4 hown hK hP 0 rfl rfl 17 (by decide) (hts _ q2499) (fun _ h9 => h9) rfl dX4_errorOffset_6 ?_
  exact pm_retI hx hb hlk hr hq hP hD hS dX4_errorOffset_9 rfl rfl

set_option maxHeartbeats 4000000 in
theorem m_undoableCount (l : Launch) (D : va_G) (h : Nat → Nat) (cI : ClassId) (f : Nat → Int32) (g : Nat → Nat → Int32) : pm_C l yX4_undoableCount (ws_ yX4_undoableCount cX4_undoableCount 1 (some .int)) ({ frames := 0, cells := 0, slots := 0, locals := 0 } : Room) D h cI [.ref (h 0)] f g (some (.int (f 6))) (va_up f 0 (nI 0)) g := by
  refine pm_enter (cc := cX4_undoableCount) (maxL := 1) (ret := (some .int)) (by decide) (Nat.le_of_ble_eq_true rfl) ?_
  intro p e s m below meth c A Qc ls hx hb hml hown hts hlk hA hK hP hD hS hr hq hl
  have hl : lv_has ls 1 [(0, .ref (h 0))] := hl
  refine lv_aload_n hx hb dX4_undoableCount_0 rfl (lv_at hl 0 rfl) ?_
  refine lv_iconst (v := nI 0) hx hb dX4_undoableCount_1 (by decide) ?_
  refine pm_put0 (f := f) (f2 := (va_up f 0 (nI 0))) hx hb hts hown hK hP hD hS (hts _ q2482) rfl dX4_undoableCount_2 (fun H locs hP hD hS => ?_)
  refine lv_aload_n hx hb dX4_undoableCount_5 rfl (lv_at hl 0 rfl) ?_
  refine va_get (D := D) (ci := 0) (v := .int (f 6)) (C := RX4) (T := TX4) (N := 22) hx hb hts in_X4 hown hK hP 0 rfl rfl 6 (by decide) (hts _ q2488) (fun _ h9 => h9) rfl dX4_undoableCount_6 ?_
  exact pm_retI hx hb hlk hr hq hP hD hS dX4_undoableCount_9 rfl rfl

set_option maxHeartbeats 4000000 in
theorem m_kindCount (l : Launch) (D : va_G) (h : Nat → Nat) (cI : ClassId) (f : Nat → Int32) (g : Nat → Nat → Int32) (B : Nat) (K : Nat) (N : Nat) (wl : List Nat) (hI : pc_inv B (g 1) K N wl) : pm_C l yX4_kindCount (ws_ yX4_kindCount cX4_kindCount 1 (some .int)) ({ frames := 0, cells := 0, slots := 0, locals := 0 } : Room) D h cI [.ref (h 0)] f g (some (.int (nI K))) (va_up f 0 (nI 0)) g := by
  refine pm_enter (cc := cX4_kindCount) (maxL := 1) (ret := (some .int)) (by decide) (Nat.le_of_ble_eq_true rfl) ?_
  intro p e s m below meth c A Qc ls hx hb hml hown hts hlk hA hK hP hD hS hr hq hl
  have hl : lv_has ls 1 [(0, .ref (h 0))] := hl
  have hN := hI.N0
  have hK0 := hI.K0
  have hN8 := hI.N8
  have hK4 := hI.K4
  have hN1 := hI.N1
  have hK1 := hI.K1
  have hwt := hI.waiting
  have hln := hI.len
  refine lv_aload_n hx hb dX4_kindCount_0 rfl (lv_at hl 0 rfl) ?_
  refine lv_iconst (v := nI 0) hx hb dX4_kindCount_1 (by decide) ?_
  refine pm_put0 (f := f) (f2 := (va_up f 0 (nI 0))) hx hb hts hown hK hP hD hS (hts _ q2482) rfl dX4_kindCount_2 (fun H locs hP hD hS => ?_)
  refine lv_aload_n hx hb dX4_kindCount_5 rfl (lv_at hl 0 rfl) ?_
  refine va_get (D := D) (ci := 0) (v := .ref (h 1)) (C := RX4) (T := TX4) (N := 22) hx hb hts in_X4 hown hK hP 0 rfl rfl 1 (by decide) (hts _ q2483) (fun _ h9 => h9) rfl dX4_kindCount_6 ?_
  refine lv_iconst (v := nI 0) hx hb dX4_kindCount_9 (by decide) ?_
  refine pn_iald (e9 := 0) (f := g 1) hx hb hK hP 1 0 rfl rfl (by omega) (by decide) dX4_kindCount_10 ?_
  refine pn_top hK0 ?_
  exact pm_retI hx hb hlk hr hq hP hD hS dX4_kindCount_11 rfl rfl

set_option maxHeartbeats 4000000 in
theorem m_officeCount (l : Launch) (D : va_G) (h : Nat → Nat) (cI : ClassId) (f : Nat → Int32) (g : Nat → Nat → Int32) (B : Nat) (K : Nat) (N : Nat) (wl : List Nat) (hI : pc_inv B (g 1) K N wl) : pm_C l yX4_officeCount (ws_ yX4_officeCount cX4_officeCount 1 (some .int)) ({ frames := 0, cells := 0, slots := 0, locals := 0 } : Room) D h cI [.ref (h 0)] f g (some (.int (nI N))) (va_up f 0 (nI 0)) g := by
  refine pm_enter (cc := cX4_officeCount) (maxL := 1) (ret := (some .int)) (by decide) (Nat.le_of_ble_eq_true rfl) ?_
  intro p e s m below meth c A Qc ls hx hb hml hown hts hlk hA hK hP hD hS hr hq hl
  have hl : lv_has ls 1 [(0, .ref (h 0))] := hl
  have hN := hI.N0
  have hK0 := hI.K0
  have hN8 := hI.N8
  have hK4 := hI.K4
  have hN1 := hI.N1
  have hK1 := hI.K1
  have hwt := hI.waiting
  have hln := hI.len
  refine lv_aload_n hx hb dX4_officeCount_0 rfl (lv_at hl 0 rfl) ?_
  refine lv_iconst (v := nI 0) hx hb dX4_officeCount_1 (by decide) ?_
  refine pm_put0 (f := f) (f2 := (va_up f 0 (nI 0))) hx hb hts hown hK hP hD hS (hts _ q2482) rfl dX4_officeCount_2 (fun H locs hP hD hS => ?_)
  refine lv_aload_n hx hb dX4_officeCount_5 rfl (lv_at hl 0 rfl) ?_
  refine va_get (D := D) (ci := 0) (v := .ref (h 1)) (C := RX4) (T := TX4) (N := 22) hx hb hts in_X4 hown hK hP 0 rfl rfl 1 (by decide) (hts _ q2483) (fun _ h9 => h9) rfl dX4_officeCount_6 ?_
  refine lv_iconst (v := nI 1) hx hb dX4_officeCount_9 (by decide) ?_
  refine pn_iald (e9 := 1) (f := g 1) hx hb hK hP 1 0 rfl rfl (by omega) (by decide) dX4_officeCount_10 ?_
  refine pn_top hN ?_
  exact pm_retI hx hb hlk hr hq hP hD hS dX4_officeCount_11 rfl rfl

set_option maxHeartbeats 4000000 in
theorem m_total_ok (l : Launch) (D : va_G) (h : Nat → Nat) (cI : ClassId) (f : Nat → Int32) (g : Nat → Nat → Int32) (B : Nat) (K : Nat) (N : Nat) (wl : List Nat) (k : Nat) (hI : pc_inv B (g 1) K N wl) (hk : k < K) : pm_C l yX4_total (ws_ yX4_total cX4_total 2 (some .int)) ({ frames := 2, cells := 0, slots := 0, locals := 43 } : Room) D h cI [.ref (h 0), .int (nI k)] f g (some (.int ((g 1) (9 + k)))) (va_up f 0 (nI 0)) g := by
  refine pm_enter (cc := cX4_total) (maxL := 2) (ret := (some .int)) (by decide) (Nat.le_of_ble_eq_true rfl) ?_
  intro p e s m below meth c A Qc ls hx hb hml hown hts hlk hA hK hP hD hS hr hq hl
  have hl : lv_has ls 2 [(0, .ref (h 0)), (1, .int (nI k))] := hl
  have hN := hI.N0
  have hK0 := hI.K0
  have hN8 := hI.N8
  have hK4 := hI.K4
  have hN1 := hI.N1
  have hK1 := hI.K1
  have hwt := hI.waiting
  have hln := hI.len
  refine lv_aload_n hx hb dX4_total_0 rfl (lv_at hl 0 rfl) ?_
  refine lv_iconst (v := nI 0) hx hb dX4_total_1 (by decide) ?_
  refine pm_put0 (f := f) (f2 := (va_up f 0 (nI 0))) hx hb hts hown hK hP hD hS (hts _ q2482) rfl dX4_total_2 (fun H locs hP hD hS => ?_)
  refine lv_aload_n hx hb dX4_total_5 rfl (lv_at hl 0 rfl) ?_
  refine lv_iload_n hx hb dX4_total_6 rfl (lv_at hl 1 rfl) ?_
  refine pm_callI (n := 1) [] hx hb hml hown hts hA hK (m_noKind_ok l D h cI (va_up f 0 (nI 0)) g K k (by first | assumption | omega | rfl) (by first | assumption | omega | rfl) (by first | assumption | omega | rfl) (by first | assumption | omega | rfl)) (lw_V q2574 q2576 qs58 q122 q2577) ⟨rfl, rfl⟩ (by decide +kernel) ⟨Nat.le_of_ble_eq_true rfl, Nat.le_of_ble_eq_true rfl⟩ hP hD hS rfl hl.1 rfl (Nat.le_of_ble_eq_true rfl) ⟨Nat.zero_le _, Nat.zero_le _⟩ dX4_total_7 (fun H locs hP hD hS => ?_)
  refine pb_if_eq (tgt := 17) hx hb dX4_total_10 (by decide) (fun c1 => ?_) (fun c1 => ?_)
  · refine lv_aload_n hx hb dX4_total_17 rfl (lv_at hl 0 rfl) ?_
    refine va_get (D := D) (ci := 0) (v := .ref (h 1)) (C := RX4) (T := TX4) (N := 22) hx hb hts in_X4 hown hK hP 0 rfl rfl 1 (by decide) (hts _ q2483) (fun _ h9 => h9) rfl dX4_total_18 ?_
    refine lv_bipush (v := nI 9) hx hb dX4_total_21 (by decide) ?_
    refine lv_iload_n hx hb dX4_total_23 rfl (lv_at hl 1 rfl) ?_
    refine pn_iadd hx hb dX4_total_24 ?_
    refine pn_iald (e9 := 9 + k) (f := g 1) hx hb hK hP 1 0 rfl rfl (by omega) (by decide) dX4_total_25 ?_
    exact pm_retI hx hb hlk hr hq hP hD hS dX4_total_26 rfl rfl
  · exfalso; cases c1

set_option maxHeartbeats 4000000 in
theorem m_total_no (l : Launch) (D : va_G) (h : Nat → Nat) (cI : ClassId) (f : Nat → Int32) (g : Nat → Nat → Int32) (B : Nat) (K : Nat) (N : Nat) (wl : List Nat) (x8 : Int32) (hI : pc_inv B (g 1) K N wl) (hx8 : pc_inr x8 (nI 0) (nI (K - 1)) = false) : pm_C l yX4_total (ws_ yX4_total cX4_total 2 (some .int)) ({ frames := 2, cells := 0, slots := 0, locals := 43 } : Room) D h cI [.ref (h 0), .int (x8)] f g (some (.int (nI 0))) (va_up f 0 (nI 1)) g := by
  refine pm_enter (cc := cX4_total) (maxL := 2) (ret := (some .int)) (by decide) (Nat.le_of_ble_eq_true rfl) ?_
  intro p e s m below meth c A Qc ls hx hb hml hown hts hlk hA hK hP hD hS hr hq hl
  have hl : lv_has ls 2 [(0, .ref (h 0)), (1, .int (x8))] := hl
  have hN := hI.N0
  have hK0 := hI.K0
  have hN8 := hI.N8
  have hK4 := hI.K4
  have hN1 := hI.N1
  have hK1 := hI.K1
  have hwt := hI.waiting
  have hln := hI.len
  refine lv_aload_n hx hb dX4_total_0 rfl (lv_at hl 0 rfl) ?_
  refine lv_iconst (v := nI 0) hx hb dX4_total_1 (by decide) ?_
  refine pm_put0 (f := f) (f2 := (va_up f 0 (nI 0))) hx hb hts hown hK hP hD hS (hts _ q2482) rfl dX4_total_2 (fun H locs hP hD hS => ?_)
  refine lv_aload_n hx hb dX4_total_5 rfl (lv_at hl 0 rfl) ?_
  refine lv_iload_n hx hb dX4_total_6 rfl (lv_at hl 1 rfl) ?_
  refine pm_callI (n := 1) [] hx hb hml hown hts hA hK (m_noKind_no l D h cI (va_up f 0 (nI 0)) g K x8 (by first | assumption | omega | rfl) (by first | assumption | omega | rfl) (by first | assumption | omega | rfl) (by first | assumption | omega | rfl) (by first | assumption | omega | rfl)) (lw_V q2574 q2576 qs58 q122 q2577) ⟨rfl, rfl⟩ (by decide +kernel) ⟨Nat.le_of_ble_eq_true rfl, Nat.le_of_ble_eq_true rfl⟩ hP hD hS rfl hl.1 rfl (Nat.le_of_ble_eq_true rfl) ⟨Nat.zero_le _, Nat.zero_le _⟩ dX4_total_7 (fun H locs hP hD hS => ?_)
  have hP : va_P D pc_Cl (pm_W h cI (va_up f 0 (nI 1)) g) H := hP
  have hD : va_D A (pm_W h cI (va_up f 0 (nI 1)) g) := hD
  refine pb_if_eq (tgt := 17) hx hb dX4_total_10 (by decide) (fun c1 => ?_) (fun c1 => ?_)
  · exfalso; cases c1
  · refine lv_iconst (v := nI 0) hx hb dX4_total_13 (by decide) ?_
    refine lv_goto (tgt := 26) hx hb dX4_total_14 (by decide) ?_
    exact pm_retI hx hb hlk hr hq hP hD hS dX4_total_26 rfl rfl

set_option maxHeartbeats 4000000 in
theorem m_available_ok (l : Launch) (D : va_G) (h : Nat → Nat) (cI : ClassId) (f : Nat → Int32) (g : Nat → Nat → Int32) (B : Nat) (K : Nat) (N : Nat) (wl : List Nat) (k : Nat) (hI : pc_inv B (g 1) K N wl) (hk : k < K) : pm_C l yX4_available (ws_ yX4_available cX4_available 2 (some .int)) ({ frames := 3, cells := 0, slots := 0, locals := 66 } : Room) D h cI [.ref (h 0), .int (nI k)] f g (some (.int (pc_free (g 1) N k))) (va_up f 0 (nI 0)) g := by
  refine pm_enter (cc := cX4_available) (maxL := 2) (ret := (some .int)) (by decide) (Nat.le_of_ble_eq_true rfl) ?_
  intro p e s m below meth c A Qc ls hx hb hml hown hts hlk hA hK hP hD hS hr hq hl
  have hl : lv_has ls 2 [(0, .ref (h 0)), (1, .int (nI k))] := hl
  have hN := hI.N0
  have hK0 := hI.K0
  have hN8 := hI.N8
  have hK4 := hI.K4
  have hN1 := hI.N1
  have hK1 := hI.K1
  have hwt := hI.waiting
  have hln := hI.len
  refine lv_aload_n hx hb dX4_available_0 rfl (lv_at hl 0 rfl) ?_
  refine lv_iconst (v := nI 0) hx hb dX4_available_1 (by decide) ?_
  refine pm_put0 (f := f) (f2 := (va_up f 0 (nI 0))) hx hb hts hown hK hP hD hS (hts _ q2482) rfl dX4_available_2 (fun H locs hP hD hS => ?_)
  refine lv_aload_n hx hb dX4_available_5 rfl (lv_at hl 0 rfl) ?_
  refine lv_iload_n hx hb dX4_available_6 rfl (lv_at hl 1 rfl) ?_
  refine pm_callI (n := 1) [] hx hb hml hown hts hA hK (m_noKind_ok l D h cI (va_up f 0 (nI 0)) g K k (by first | assumption | omega | rfl) (by first | assumption | omega | rfl) (by first | assumption | omega | rfl) (by first | assumption | omega | rfl)) (lw_V q2574 q2576 qs58 q122 q2577) ⟨rfl, rfl⟩ (by decide +kernel) ⟨Nat.le_of_ble_eq_true rfl, Nat.le_of_ble_eq_true rfl⟩ hP hD hS rfl hl.1 rfl (Nat.le_of_ble_eq_true rfl) ⟨Nat.zero_le _, Nat.zero_le _⟩ dX4_available_7 (fun H locs hP hD hS => ?_)
  refine pb_if_eq (tgt := 17) hx hb dX4_available_10 (by decide) (fun c1 => ?_) (fun c1 => ?_)
  · refine lv_aload_n hx hb dX4_available_17 rfl (lv_at hl 0 rfl) ?_
    refine lv_iload_n hx hb dX4_available_18 rfl (lv_at hl 1 rfl) ?_
    refine pm_callI (n := 1) [] hx hb hml hown hts hA hK (m_free l D h cI (va_up f 0 (nI 0)) g N k (by first | assumption | omega | rfl) (by first | assumption | omega | rfl) (by first | assumption | omega | rfl)) (lw_V q2447 q2449 qs49 q122 q2450) ⟨rfl, rfl⟩ (by decide +kernel) ⟨Nat.le_of_ble_eq_true rfl, Nat.le_of_ble_eq_true rfl⟩ hP hD hS rfl hl.1 rfl (Nat.le_of_ble_eq_true rfl) ⟨Nat.zero_le _, Nat.zero_le _⟩ dX4_available_19 (fun H locs hP hD hS => ?_)
    exact pm_retI hx hb hlk hr hq hP hD hS dX4_available_22 rfl rfl
  · exfalso; cases c1

set_option maxHeartbeats 4000000 in
theorem m_available_no (l : Launch) (D : va_G) (h : Nat → Nat) (cI : ClassId) (f : Nat → Int32) (g : Nat → Nat → Int32) (B : Nat) (K : Nat) (N : Nat) (wl : List Nat) (x8 : Int32) (hI : pc_inv B (g 1) K N wl) (hx8 : pc_inr x8 (nI 0) (nI (K - 1)) = false) : pm_C l yX4_available (ws_ yX4_available cX4_available 2 (some .int)) ({ frames := 2, cells := 0, slots := 0, locals := 43 } : Room) D h cI [.ref (h 0), .int (x8)] f g (some (.int (nI 0))) (va_up f 0 (nI 1)) g := by
  refine pm_enter (cc := cX4_available) (maxL := 2) (ret := (some .int)) (by decide) (Nat.le_of_ble_eq_true rfl) ?_
  intro p e s m below meth c A Qc ls hx hb hml hown hts hlk hA hK hP hD hS hr hq hl
  have hl : lv_has ls 2 [(0, .ref (h 0)), (1, .int (x8))] := hl
  have hN := hI.N0
  have hK0 := hI.K0
  have hN8 := hI.N8
  have hK4 := hI.K4
  have hN1 := hI.N1
  have hK1 := hI.K1
  have hwt := hI.waiting
  have hln := hI.len
  refine lv_aload_n hx hb dX4_available_0 rfl (lv_at hl 0 rfl) ?_
  refine lv_iconst (v := nI 0) hx hb dX4_available_1 (by decide) ?_
  refine pm_put0 (f := f) (f2 := (va_up f 0 (nI 0))) hx hb hts hown hK hP hD hS (hts _ q2482) rfl dX4_available_2 (fun H locs hP hD hS => ?_)
  refine lv_aload_n hx hb dX4_available_5 rfl (lv_at hl 0 rfl) ?_
  refine lv_iload_n hx hb dX4_available_6 rfl (lv_at hl 1 rfl) ?_
  refine pm_callI (n := 1) [] hx hb hml hown hts hA hK (m_noKind_no l D h cI (va_up f 0 (nI 0)) g K x8 (by first | assumption | omega | rfl) (by first | assumption | omega | rfl) (by first | assumption | omega | rfl) (by first | assumption | omega | rfl) (by first | assumption | omega | rfl)) (lw_V q2574 q2576 qs58 q122 q2577) ⟨rfl, rfl⟩ (by decide +kernel) ⟨Nat.le_of_ble_eq_true rfl, Nat.le_of_ble_eq_true rfl⟩ hP hD hS rfl hl.1 rfl (Nat.le_of_ble_eq_true rfl) ⟨Nat.zero_le _, Nat.zero_le _⟩ dX4_available_7 (fun H locs hP hD hS => ?_)
  have hP : va_P D pc_Cl (pm_W h cI (va_up f 0 (nI 1)) g) H := hP
  have hD : va_D A (pm_W h cI (va_up f 0 (nI 1)) g) := hD
  refine pb_if_eq (tgt := 17) hx hb dX4_available_10 (by decide) (fun c1 => ?_) (fun c1 => ?_)
  · exfalso; cases c1
  · refine lv_iconst (v := nI 0) hx hb dX4_available_13 (by decide) ?_
    refine lv_goto (tgt := 22) hx hb dX4_available_14 (by decide) ?_
    exact pm_retI hx hb hlk hr hq hP hD hS dX4_available_22 rfl rfl

set_option maxHeartbeats 4000000 in
theorem m_claimedInAll_ok (l : Launch) (D : va_G) (h : Nat → Nat) (cI : ClassId) (f : Nat → Int32) (g : Nat → Nat → Int32) (B : Nat) (K : Nat) (N : Nat) (wl : List Nat) (k : Nat) (hI : pc_inv B (g 1) K N wl) (hk : k < K) : pm_C l yX4_claimedInAll (ws_ yX4_claimedInAll cX4_claimedInAll 4 (some .int)) ({ frames := 2, cells := 0, slots := 0, locals := 43 } : Room) D h cI [.ref (h 0), .int (nI k)] f g (some (.int (pc_claimAll (g 1) N k))) (va_up f 0 (nI 0)) g := by
  refine pm_enter (cc := cX4_claimedInAll) (maxL := 4) (ret := (some .int)) (by decide) (Nat.le_of_ble_eq_true rfl) ?_
  intro p e s m below meth c A Qc ls hx hb hml hown hts hlk hA hK hP hD hS hr hq hl
  have hl : lv_has ls 4 [(0, .ref (h 0)), (1, .int (nI k))] := hl
  have hN := hI.N0
  have hK0 := hI.K0
  have hN8 := hI.N8
  have hK4 := hI.K4
  have hN1 := hI.N1
  have hK1 := hI.K1
  have hwt := hI.waiting
  have hln := hI.len
  refine lv_aload_n hx hb dX4_claimedInAll_0 rfl (lv_at hl 0 rfl) ?_
  refine lv_iconst (v := nI 0) hx hb dX4_claimedInAll_1 (by decide) ?_
  refine pm_put0 (f := f) (f2 := (va_up f 0 (nI 0))) hx hb hts hown hK hP hD hS (hts _ q2482) rfl dX4_claimedInAll_2 (fun H locs hP hD hS => ?_)
  refine lv_aload_n hx hb dX4_claimedInAll_5 rfl (lv_at hl 0 rfl) ?_
  refine lv_iload_n hx hb dX4_claimedInAll_6 rfl (lv_at hl 1 rfl) ?_
  refine pm_callI (n := 1) [] hx hb hml hown hts hA hK (m_noKind_ok l D h cI (va_up f 0 (nI 0)) g K k (by first | assumption | omega | rfl) (by first | assumption | omega | rfl) (by first | assumption | omega | rfl) (by first | assumption | omega | rfl)) (lw_V q2574 q2576 qs58 q122 q2577) ⟨rfl, rfl⟩ (by decide +kernel) ⟨Nat.le_of_ble_eq_true rfl, Nat.le_of_ble_eq_true rfl⟩ hP hD hS rfl hl.1 rfl (Nat.le_of_ble_eq_true rfl) ⟨Nat.zero_le _, Nat.zero_le _⟩ dX4_claimedInAll_7 (fun H locs hP hD hS => ?_)
  refine pb_if_eq (tgt := 15) hx hb dX4_claimedInAll_10 (by decide) (fun c1 => ?_) (fun c1 => ?_)
  · refine lv_iconst (v := nI 0) hx hb dX4_claimedInAll_15 (by decide) ?_
    refine lv_istore_n (lv' := [(2, .int (nI 0)), (0, .ref (h 0)), (1, .int (nI k))]) hx hb dX4_claimedInAll_16 rfl hl (by decide) rfl (fun ls hl => ?_)
    refine lv_iconst (v := nI 0) hx hb dX4_claimedInAll_17 (by decide) ?_
    refine lv_istore_n (lv' := [(3, .int (nI 0)), (2, .int (nI 0)), (0, .ref (h 0)), (1, .int (nI k))]) hx hb dX4_claimedInAll_18 rfl hl (by decide) rfl (fun ls hl => ?_)
    have hloop19 : ∀ (n19 : Nat) (i1 : Nat), i1 ≤ N → N - i1 < n19 → ∀ (H : Heap) (locs : List Loc), va_P D pc_Cl (pm_W h cI (va_up f 0 (nI 0)) g) H → va_D A (pm_W h cI (va_up f 0 (nI 0)) g) → va_S A s.heap H locs → ∀ ls : Array Slot, lv_has ls 4 [(2, .int (pc_sum (fun z9 => pc_of (g 1) z9 (0 + k)) i1)), (3, .int (nI i1)), (0, .ref (h 0)), (1, .int (nI k))] → W p l e ({ frames := 2, cells := 0, slots := 0, locals := 43 } : Room) s m ([.ref (h 0), .int (nI k)] : List Value).toArray below meth c H locs 0 0 (MQ below Qc ([.ref (h 0), .int (nI k)] : List Value).toArray s 0 0 A) (F0 m 19 ls []) := by
      intro n19
      induction n19 with
      | zero => intro i1 hi1 hm; exact absurd hm (by omega)
      | succ n19 ih19 =>
        intro i1 hi1 hm19 H locs hP hD hS ls hl
        refine lv_iload_n hx hb dX4_claimedInAll_19 rfl (lv_at hl 1 rfl) ?_
        refine lv_aload_n hx hb dX4_claimedInAll_20 rfl (lv_at hl 2 rfl) ?_
        refine va_get (D := D) (ci := 0) (v := .ref (h 1)) (C := RX4) (T := TX4) (N := 22) hx hb hts in_X4 hown hK hP 0 rfl rfl 1 (by decide) (hts _ q2483) (fun _ h9 => h9) rfl dX4_claimedInAll_21 ?_
        refine lv_iconst (v := nI 1) hx hb dX4_claimedInAll_24 (by decide) ?_
        refine pn_iald (e9 := 1) (f := g 1) hx hb hK hP 1 0 rfl rfl (by omega) (by decide) dX4_claimedInAll_25 ?_
        refine pn_top hN ?_
        refine pn_icmp_ge (tgt := 46) hx hb (by omega) (by omega) dX4_claimedInAll_26 (by decide) (fun c2 => ?_) (fun c2 => ?_)
        · refine lv_iload_n hx hb dX4_claimedInAll_46 rfl (lv_at hl 0 rfl) ?_
          exact pm_retI hx hb hlk hr hq hP hD hS dX4_claimedInAll_47 (by rw [show i1 = N from by omega]; rfl) rfl
        · refine lv_iload_n hx hb dX4_claimedInAll_29 rfl (lv_at hl 0 rfl) ?_
          refine lv_aload_n hx hb dX4_claimedInAll_30 rfl (lv_at hl 2 rfl) ?_
          refine lv_iload_n hx hb dX4_claimedInAll_31 rfl (lv_at hl 1 rfl) ?_
          refine lv_iconst (v := nI 0) hx hb dX4_claimedInAll_32 (by decide) ?_
          refine lv_iload_n hx hb dX4_claimedInAll_33 rfl (lv_at hl 3 rfl) ?_
          refine pn_iadd hx hb dX4_claimedInAll_34 ?_
          refine pm_callI (n := 2) [.int (pc_sum (fun z9 => pc_of (g 1) z9 (0 + k)) i1)] hx hb hml hown hts hA hK (m_of l D h cI (va_up f 0 (nI 0)) g i1 (0 + k) (by first | assumption | omega | rfl) (by first | assumption | omega | rfl)) (lw_V q2443 q2445 qs48 q122 q2446) ⟨rfl, rfl⟩ (by decide +kernel) ⟨Nat.le_of_ble_eq_true rfl, Nat.le_of_ble_eq_true rfl⟩ hP hD hS rfl hl.1 rfl (Nat.le_of_ble_eq_true rfl) ⟨Nat.zero_le _, Nat.zero_le _⟩ dX4_claimedInAll_35 (fun H locs hP hD hS => ?_)
          refine lv_iadd hx hb dX4_claimedInAll_38 ?_
          refine lv_istore_n (lv' := [(2, .int ((pc_sum (fun z9 => pc_of (g 1) z9 (0 + k)) i1) + (pc_of (g 1) i1 (0 + k)))), (3, .int (nI i1)), (0, .ref (h 0)), (1, .int (nI k))]) hx hb dX4_claimedInAll_39 rfl hl (by decide) rfl (fun ls hl => ?_)
          refine lv_iinc (v := nI (i1 + 1)) (lv' := [(3, .int (nI (i1 + 1))), (2, .int ((pc_sum (fun z9 => pc_of (g 1) z9 (0 + k)) i1) + (pc_of (g 1) i1 (0 + k)))), (0, .ref (h 0)), (1, .int (nI k))]) hx hb dX4_claimedInAll_40 hl (k := 1) rfl (nI_1 _) (by decide) rfl (fun ls hl => ?_)
          refine lv_goto (tgt := 19) hx hb dX4_claimedInAll_43 (by decide) ?_
          exact ih19 (i1 + 1) (by first | assumption | omega) (by omega) _ _ hP hD hS _ (lv_sub hl [1, 0, 2, 3] rfl)
    exact hloop19 (N - 0 + 1) 0 (by first | assumption | omega) (by omega) _ _ hP hD hS _ (lv_sub hl [1, 0, 2, 3] rfl)
  · exfalso; cases c1

set_option maxHeartbeats 4000000 in
theorem m_claimedInAll_no (l : Launch) (D : va_G) (h : Nat → Nat) (cI : ClassId) (f : Nat → Int32) (g : Nat → Nat → Int32) (B : Nat) (K : Nat) (N : Nat) (wl : List Nat) (x8 : Int32) (hI : pc_inv B (g 1) K N wl) (hx8 : pc_inr x8 (nI 0) (nI (K - 1)) = false) : pm_C l yX4_claimedInAll (ws_ yX4_claimedInAll cX4_claimedInAll 4 (some .int)) ({ frames := 2, cells := 0, slots := 0, locals := 43 } : Room) D h cI [.ref (h 0), .int (x8)] f g (some (.int (nI 0))) (va_up f 0 (nI 1)) g := by
  refine pm_enter (cc := cX4_claimedInAll) (maxL := 4) (ret := (some .int)) (by decide) (Nat.le_of_ble_eq_true rfl) ?_
  intro p e s m below meth c A Qc ls hx hb hml hown hts hlk hA hK hP hD hS hr hq hl
  have hl : lv_has ls 4 [(0, .ref (h 0)), (1, .int (x8))] := hl
  have hN := hI.N0
  have hK0 := hI.K0
  have hN8 := hI.N8
  have hK4 := hI.K4
  have hN1 := hI.N1
  have hK1 := hI.K1
  have hwt := hI.waiting
  have hln := hI.len
  refine lv_aload_n hx hb dX4_claimedInAll_0 rfl (lv_at hl 0 rfl) ?_
  refine lv_iconst (v := nI 0) hx hb dX4_claimedInAll_1 (by decide) ?_
  refine pm_put0 (f := f) (f2 := (va_up f 0 (nI 0))) hx hb hts hown hK hP hD hS (hts _ q2482) rfl dX4_claimedInAll_2 (fun H locs hP hD hS => ?_)
  refine lv_aload_n hx hb dX4_claimedInAll_5 rfl (lv_at hl 0 rfl) ?_
  refine lv_iload_n hx hb dX4_claimedInAll_6 rfl (lv_at hl 1 rfl) ?_
  refine pm_callI (n := 1) [] hx hb hml hown hts hA hK (m_noKind_no l D h cI (va_up f 0 (nI 0)) g K x8 (by first | assumption | omega | rfl) (by first | assumption | omega | rfl) (by first | assumption | omega | rfl) (by first | assumption | omega | rfl) (by first | assumption | omega | rfl)) (lw_V q2574 q2576 qs58 q122 q2577) ⟨rfl, rfl⟩ (by decide +kernel) ⟨Nat.le_of_ble_eq_true rfl, Nat.le_of_ble_eq_true rfl⟩ hP hD hS rfl hl.1 rfl (Nat.le_of_ble_eq_true rfl) ⟨Nat.zero_le _, Nat.zero_le _⟩ dX4_claimedInAll_7 (fun H locs hP hD hS => ?_)
  have hP : va_P D pc_Cl (pm_W h cI (va_up f 0 (nI 1)) g) H := hP
  have hD : va_D A (pm_W h cI (va_up f 0 (nI 1)) g) := hD
  refine pb_if_eq (tgt := 15) hx hb dX4_claimedInAll_10 (by decide) (fun c1 => ?_) (fun c1 => ?_)
  · exfalso; cases c1
  · refine lv_iconst (v := nI 0) hx hb dX4_claimedInAll_13 (by decide) ?_
    exact pm_retI hx hb hlk hr hq hP hD hS dX4_claimedInAll_14 rfl rfl

set_option maxHeartbeats 4000000 in
theorem m_scarcestKind (l : Launch) (D : va_G) (h : Nat → Nat) (cI : ClassId) (f : Nat → Int32) (g : Nat → Nat → Int32) (B : Nat) (K : Nat) (N : Nat) (wl : List Nat) (hI : pc_inv B (g 1) K N wl) : pm_C l yX4_scarcestKind (ws_ yX4_scarcestKind cX4_scarcestKind 3 (some .int)) ({ frames := 3, cells := 0, slots := 0, locals := 66 } : Room) D h cI [.ref (h 0)] f g (some (.int (nI (pc_best (pc_scar (g 1) N) K)))) (va_up f 0 (nI 0)) g := by
  refine pm_enter (cc := cX4_scarcestKind) (maxL := 3) (ret := (some .int)) (by decide) (Nat.le_of_ble_eq_true rfl) ?_
  intro p e s m below meth c A Qc ls hx hb hml hown hts hlk hA hK hP hD hS hr hq hl
  have hl : lv_has ls 3 [(0, .ref (h 0))] := hl
  have hN := hI.N0
  have hK0 := hI.K0
  have hN8 := hI.N8
  have hK4 := hI.K4
  have hN1 := hI.N1
  have hK1 := hI.K1
  have hwt := hI.waiting
  have hln := hI.len
  refine lv_aload_n hx hb dX4_scarcestKind_0 rfl (lv_at hl 0 rfl) ?_
  refine lv_iconst (v := nI 0) hx hb dX4_scarcestKind_1 (by decide) ?_
  refine pm_put0 (f := f) (f2 := (va_up f 0 (nI 0))) hx hb hts hown hK hP hD hS (hts _ q2482) rfl dX4_scarcestKind_2 (fun H locs hP hD hS => ?_)
  refine lv_iconst (v := nI 0) hx hb dX4_scarcestKind_5 (by decide) ?_
  refine lv_istore_n (lv' := [(1, .int (nI 0)), (0, .ref (h 0))]) hx hb dX4_scarcestKind_6 rfl hl (by decide) rfl (fun ls hl => ?_)
  refine lv_iconst (v := nI 1) hx hb dX4_scarcestKind_7 (by decide) ?_
  refine lv_istore_n (lv' := [(2, .int (nI 1)), (1, .int (nI 0)), (0, .ref (h 0))]) hx hb dX4_scarcestKind_8 rfl hl (by decide) rfl (fun ls hl => ?_)
  have eL : nI 0 = nI (pc_best (pc_scar (g 1) N) 1) := (congrArg nI (pc_best1 (pc_scar_irr _ _ _)).symm)
  rw [eL] at hl
  have hloop9 : ∀ (n9 : Nat) (i1 : Nat), i1 ≤ K → 1 ≤ i1 → K - i1 < n9 → ∀ (H : Heap) (locs : List Loc), va_P D pc_Cl (pm_W h cI (va_up f 0 (nI 0)) g) H → va_D A (pm_W h cI (va_up f 0 (nI 0)) g) → va_S A s.heap H locs → ∀ ls : Array Slot, lv_has ls 3 [(1, .int (nI (pc_best (pc_scar (g 1) N) i1))), (2, .int (nI i1)), (0, .ref (h 0))] → W p l e ({ frames := 3, cells := 0, slots := 0, locals := 66 } : Room) s m ([.ref (h 0)] : List Value).toArray below meth c H locs 0 0 (MQ below Qc ([.ref (h 0)] : List Value).toArray s 0 0 A) (F0 m 9 ls []) := by
    intro n9
    induction n9 with
    | zero => intro i1 hi1 hi0 hm; exact absurd hm (by omega)
    | succ n9 ih9 =>
      intro i1 hi1 hi0 hm9 H locs hP hD hS ls hl
      have hbl := pc_best_lt (pc_scar (g 1) N) (n := i1) (by omega)
      refine lv_iload_n hx hb dX4_scarcestKind_9 rfl (lv_at hl 1 rfl) ?_
      refine lv_aload_n hx hb dX4_scarcestKind_10 rfl (lv_at hl 2 rfl) ?_
      refine va_get (D := D) (ci := 0) (v := .ref (h 1)) (C := RX4) (T := TX4) (N := 22) hx hb hts in_X4 hown hK hP 0 rfl rfl 1 (by decide) (hts _ q2483) (fun _ h9 => h9) rfl dX4_scarcestKind_11 ?_
      refine lv_iconst (v := nI 0) hx hb dX4_scarcestKind_14 (by decide) ?_
      refine pn_iald (e9 := 0) (f := g 1) hx hb hK hP 1 0 rfl rfl (by omega) (by decide) dX4_scarcestKind_15 ?_
      refine pn_top hK0 ?_
      refine pn_icmp_ge (tgt := 40) hx hb (by omega) (by omega) dX4_scarcestKind_16 (by decide) (fun c1 => ?_) (fun c1 => ?_)
      · refine lv_iload_n hx hb dX4_scarcestKind_40 rfl (lv_at hl 0 rfl) ?_
        exact pm_retI hx hb hlk hr hq hP hD hS dX4_scarcestKind_41 (by rw [show i1 = K from by omega]) rfl
      · refine lv_aload_n hx hb dX4_scarcestKind_19 rfl (lv_at hl 2 rfl) ?_
        refine lv_iload_n hx hb dX4_scarcestKind_20 rfl (lv_at hl 1 rfl) ?_
        refine pm_callI (n := 1) [] hx hb hml hown hts hA hK (m_free l D h cI (va_up f 0 (nI 0)) g N i1 (by first | assumption | omega | rfl) (by first | assumption | omega | rfl) (by first | assumption | omega | rfl)) (lw_V q2447 q2449 qs49 q122 q2450) ⟨rfl, rfl⟩ (by decide +kernel) ⟨Nat.le_of_ble_eq_true rfl, Nat.le_of_ble_eq_true rfl⟩ hP hD hS rfl hl.1 rfl (Nat.le_of_ble_eq_true rfl) ⟨Nat.zero_le _, Nat.zero_le _⟩ dX4_scarcestKind_21 (fun H locs hP hD hS => ?_)
        refine lv_aload_n hx hb dX4_scarcestKind_24 rfl (lv_at hl 2 rfl) ?_
        refine lv_iload_n hx hb dX4_scarcestKind_25 rfl (lv_at hl 0 rfl) ?_
        refine pm_callI (n := 1) [.int (pc_free (g 1) N i1)] hx hb hml hown hts hA hK (m_free l D h cI (va_up f 0 (nI 0)) g N (pc_best (pc_scar (g 1) N) i1) (by first | assumption | omega | rfl) (by first | assumption | omega | rfl) (by first | assumption | omega | rfl)) (lw_V q2447 q2449 qs49 q122 q2450) ⟨rfl, rfl⟩ (by decide +kernel) ⟨Nat.le_of_ble_eq_true rfl, Nat.le_of_ble_eq_true rfl⟩ hP hD hS rfl hl.1 rfl (Nat.le_of_ble_eq_true rfl) ⟨Nat.zero_le _, Nat.zero_le _⟩ dX4_scarcestKind_26 (fun H locs hP hD hS => ?_)
        refine lv_icmp_ge (tgt := 34) hx hb dX4_scarcestKind_29 (by decide) (fun c2 => ?_) (fun c2 => ?_)
        · refine lv_iinc (v := nI (i1 + 1)) (lv' := [(2, .int (nI (i1 + 1))), (1, .int (nI (pc_best (pc_scar (g 1) N) i1))), (0, .ref (h 0))]) hx hb dX4_scarcestKind_34 hl (k := 1) rfl (nI_1 _) (by decide) rfl (fun ls hl => ?_)
          refine lv_goto (tgt := 9) hx hb dX4_scarcestKind_37 (by decide) ?_
          have eL : nI (pc_best (pc_scar (g 1) N) i1) = nI (pc_best (pc_scar (g 1) N) (i1 + 1)) := (by simp [pc_best, pc_scar, c2])
          rw [eL] at hl
          exact ih9 (i1 + 1) (by first | assumption | omega) (by first | assumption | omega) (by omega) _ _ hP hD hS _ (lv_sub hl [1, 0, 2] rfl)
        · refine lv_iload_n hx hb dX4_scarcestKind_32 rfl (lv_at hl 1 rfl) ?_
          refine lv_istore_n (lv' := [(1, .int (nI i1)), (2, .int (nI i1)), (0, .ref (h 0))]) hx hb dX4_scarcestKind_33 rfl hl (by decide) rfl (fun ls hl => ?_)
          refine lv_iinc (v := nI (i1 + 1)) (lv' := [(2, .int (nI (i1 + 1))), (1, .int (nI i1)), (0, .ref (h 0))]) hx hb dX4_scarcestKind_34 hl (k := 1) rfl (nI_1 _) (by decide) rfl (fun ls hl => ?_)
          refine lv_goto (tgt := 9) hx hb dX4_scarcestKind_37 (by decide) ?_
          have eL : nI i1 = nI (pc_best (pc_scar (g 1) N) (i1 + 1)) := (by simp [pc_best, pc_scar, c2])
          rw [eL] at hl
          exact ih9 (i1 + 1) (by first | assumption | omega) (by first | assumption | omega) (by omega) _ _ hP hD hS _ (lv_sub hl [1, 0, 2] rfl)
  exact hloop9 (K - 1 + 1) 1 (by first | assumption | omega) (by first | assumption | omega) (by omega) _ _ hP hD hS _ (lv_sub hl [1, 0, 2] rfl)

set_option maxHeartbeats 4000000 in
theorem m_greatestHolder (l : Launch) (D : va_G) (h : Nat → Nat) (cI : ClassId) (f : Nat → Int32) (g : Nat → Nat → Int32) (B : Nat) (K : Nat) (N : Nat) (wl : List Nat) (hI : pc_inv B (g 1) K N wl) : pm_C l yX4_greatestHolder (ws_ yX4_greatestHolder cX4_greatestHolder 3 (some .int)) ({ frames := 2, cells := 0, slots := 0, locals := 45 } : Room) D h cI [.ref (h 0)] f g (some (.int (nI (pc_best (pc_most (g 1) K) N)))) (va_up f 0 (nI 0)) g := by
  refine pm_enter (cc := cX4_greatestHolder) (maxL := 3) (ret := (some .int)) (by decide) (Nat.le_of_ble_eq_true rfl) ?_
  intro p e s m below meth c A Qc ls hx hb hml hown hts hlk hA hK hP hD hS hr hq hl
  have hl : lv_has ls 3 [(0, .ref (h 0))] := hl
  have hN := hI.N0
  have hK0 := hI.K0
  have hN8 := hI.N8
  have hK4 := hI.K4
  have hN1 := hI.N1
  have hK1 := hI.K1
  have hwt := hI.waiting
  have hln := hI.len
  refine lv_aload_n hx hb dX4_greatestHolder_0 rfl (lv_at hl 0 rfl) ?_
  refine lv_iconst (v := nI 0) hx hb dX4_greatestHolder_1 (by decide) ?_
  refine pm_put0 (f := f) (f2 := (va_up f 0 (nI 0))) hx hb hts hown hK hP hD hS (hts _ q2482) rfl dX4_greatestHolder_2 (fun H locs hP hD hS => ?_)
  refine lv_iconst (v := nI 0) hx hb dX4_greatestHolder_5 (by decide) ?_
  refine lv_istore_n (lv' := [(1, .int (nI 0)), (0, .ref (h 0))]) hx hb dX4_greatestHolder_6 rfl hl (by decide) rfl (fun ls hl => ?_)
  refine lv_iconst (v := nI 1) hx hb dX4_greatestHolder_7 (by decide) ?_
  refine lv_istore_n (lv' := [(2, .int (nI 1)), (1, .int (nI 0)), (0, .ref (h 0))]) hx hb dX4_greatestHolder_8 rfl hl (by decide) rfl (fun ls hl => ?_)
  have eL : nI 0 = nI (pc_best (pc_most (g 1) K) 1) := (congrArg nI (pc_best1 (pc_most_irr _ _ _)).symm)
  rw [eL] at hl
  have hloop9 : ∀ (n9 : Nat) (i1 : Nat), i1 ≤ N → 1 ≤ i1 → N - i1 < n9 → ∀ (H : Heap) (locs : List Loc), va_P D pc_Cl (pm_W h cI (va_up f 0 (nI 0)) g) H → va_D A (pm_W h cI (va_up f 0 (nI 0)) g) → va_S A s.heap H locs → ∀ ls : Array Slot, lv_has ls 3 [(1, .int (nI (pc_best (pc_most (g 1) K) i1))), (2, .int (nI i1)), (0, .ref (h 0))] → W p l e ({ frames := 2, cells := 0, slots := 0, locals := 45 } : Room) s m ([.ref (h 0)] : List Value).toArray below meth c H locs 0 0 (MQ below Qc ([.ref (h 0)] : List Value).toArray s 0 0 A) (F0 m 9 ls []) := by
    intro n9
    induction n9 with
    | zero => intro i1 hi1 hi0 hm; exact absurd hm (by omega)
    | succ n9 ih9 =>
      intro i1 hi1 hi0 hm9 H locs hP hD hS ls hl
      have hbl := pc_best_lt (pc_most (g 1) K) (n := i1) (by omega)
      refine lv_iload_n hx hb dX4_greatestHolder_9 rfl (lv_at hl 1 rfl) ?_
      refine lv_aload_n hx hb dX4_greatestHolder_10 rfl (lv_at hl 2 rfl) ?_
      refine va_get (D := D) (ci := 0) (v := .ref (h 1)) (C := RX4) (T := TX4) (N := 22) hx hb hts in_X4 hown hK hP 0 rfl rfl 1 (by decide) (hts _ q2483) (fun _ h9 => h9) rfl dX4_greatestHolder_11 ?_
      refine lv_iconst (v := nI 1) hx hb dX4_greatestHolder_14 (by decide) ?_
      refine pn_iald (e9 := 1) (f := g 1) hx hb hK hP 1 0 rfl rfl (by omega) (by decide) dX4_greatestHolder_15 ?_
      refine pn_top hN ?_
      refine pn_icmp_ge (tgt := 40) hx hb (by omega) (by omega) dX4_greatestHolder_16 (by decide) (fun c1 => ?_) (fun c1 => ?_)
      · refine lv_iload_n hx hb dX4_greatestHolder_40 rfl (lv_at hl 0 rfl) ?_
        exact pm_retI hx hb hlk hr hq hP hD hS dX4_greatestHolder_41 (by rw [show i1 = N from by omega]) rfl
      · refine lv_aload_n hx hb dX4_greatestHolder_19 rfl (lv_at hl 2 rfl) ?_
        refine lv_iload_n hx hb dX4_greatestHolder_20 rfl (lv_at hl 1 rfl) ?_
        refine pm_callI (n := 1) [] hx hb hml hown hts hA hK (m_heldOf l D h cI (va_up f 0 (nI 0)) g K i1 (by first | assumption | omega | rfl) (by first | assumption | omega | rfl) (by first | assumption | omega | rfl)) (lw_V q2637 q2639 qs62 q122 q2640) ⟨rfl, rfl⟩ (by decide +kernel) ⟨Nat.le_of_ble_eq_true rfl, Nat.le_of_ble_eq_true rfl⟩ hP hD hS rfl hl.1 rfl (Nat.le_of_ble_eq_true rfl) ⟨Nat.zero_le _, Nat.zero_le _⟩ dX4_greatestHolder_21 (fun H locs hP hD hS => ?_)
        refine lv_aload_n hx hb dX4_greatestHolder_24 rfl (lv_at hl 2 rfl) ?_
        refine lv_iload_n hx hb dX4_greatestHolder_25 rfl (lv_at hl 0 rfl) ?_
        refine pm_callI (n := 1) [.int (pc_heldOf (g 1) K i1)] hx hb hml hown hts hA hK (m_heldOf l D h cI (va_up f 0 (nI 0)) g K (pc_best (pc_most (g 1) K) i1) (by first | assumption | omega | rfl) (by first | assumption | omega | rfl) (by first | assumption | omega | rfl)) (lw_V q2637 q2639 qs62 q122 q2640) ⟨rfl, rfl⟩ (by decide +kernel) ⟨Nat.le_of_ble_eq_true rfl, Nat.le_of_ble_eq_true rfl⟩ hP hD hS rfl hl.1 rfl (Nat.le_of_ble_eq_true rfl) ⟨Nat.zero_le _, Nat.zero_le _⟩ dX4_greatestHolder_26 (fun H locs hP hD hS => ?_)
        refine lv_icmp_le (tgt := 34) hx hb dX4_greatestHolder_29 (by decide) (fun c2 => ?_) (fun c2 => ?_)
        · refine lv_iinc (v := nI (i1 + 1)) (lv' := [(2, .int (nI (i1 + 1))), (1, .int (nI (pc_best (pc_most (g 1) K) i1))), (0, .ref (h 0))]) hx hb dX4_greatestHolder_34 hl (k := 1) rfl (nI_1 _) (by decide) rfl (fun ls hl => ?_)
          refine lv_goto (tgt := 9) hx hb dX4_greatestHolder_37 (by decide) ?_
          have eL : nI (pc_best (pc_most (g 1) K) i1) = nI (pc_best (pc_most (g 1) K) (i1 + 1)) := (by simp [pc_best, pc_most, c2])
          rw [eL] at hl
          exact ih9 (i1 + 1) (by first | assumption | omega) (by first | assumption | omega) (by omega) _ _ hP hD hS _ (lv_sub hl [1, 0, 2] rfl)
        · refine lv_iload_n hx hb dX4_greatestHolder_32 rfl (lv_at hl 1 rfl) ?_
          refine lv_istore_n (lv' := [(1, .int (nI i1)), (2, .int (nI i1)), (0, .ref (h 0))]) hx hb dX4_greatestHolder_33 rfl hl (by decide) rfl (fun ls hl => ?_)
          refine lv_iinc (v := nI (i1 + 1)) (lv' := [(2, .int (nI (i1 + 1))), (1, .int (nI i1)), (0, .ref (h 0))]) hx hb dX4_greatestHolder_34 hl (k := 1) rfl (nI_1 _) (by decide) rfl (fun ls hl => ?_)
          refine lv_goto (tgt := 9) hx hb dX4_greatestHolder_37 (by decide) ?_
          have eL : nI i1 = nI (pc_best (pc_most (g 1) K) (i1 + 1)) := (by simp [pc_best, pc_most, c2])
          rw [eL] at hl
          exact ih9 (i1 + 1) (by first | assumption | omega) (by first | assumption | omega) (by omega) _ _ hP hD hS _ (lv_sub hl [1, 0, 2] rfl)
  exact hloop9 (N - 1 + 1) 1 (by first | assumption | omega) (by first | assumption | omega) (by omega) _ _ hP hD hS _ (lv_sub hl [1, 0, 2] rfl)

set_option maxHeartbeats 4000000 in
theorem m_utilization (l : Launch) (D : va_G) (h : Nat → Nat) (cI : ClassId) (f : Nat → Int32) (g : Nat → Nat → Int32) (B : Nat) (K : Nat) (N : Nat) (wl : List Nat) (hI : pc_inv B (g 1) K N wl) (hne : ¬ pc_tot (g 1) K = 0 → vf_n32 (FP.fdiv (FP.i2f (pc_heldAll (g 1) K N)) (FP.i2f (pc_tot (g 1) K)))) : pm_C l yX4_utilization (ws_ yX4_utilization cX4_utilization 3 (some .float)) ({ frames := 3, cells := 0, slots := 0, locals := 67 } : Room) D h cI [.ref (h 0)] f g (some (.float (pc_util (g 1) K N))) (va_up f 0 (nI 0)) g := by
  refine pm_enter (cc := cX4_utilization) (maxL := 3) (ret := (some .float)) (by decide) (Nat.le_of_ble_eq_true rfl) ?_
  intro p e s m below meth c A Qc ls hx hb hml hown hts hlk hA hK hP hD hS hr hq hl
  have hl : lv_has ls 3 [(0, .ref (h 0))] := hl
  have hN := hI.N0
  have hK0 := hI.K0
  have hN8 := hI.N8
  have hK4 := hI.K4
  have hN1 := hI.N1
  have hK1 := hI.K1
  have hwt := hI.waiting
  have hln := hI.len
  refine lv_aload_n hx hb dX4_utilization_0 rfl (lv_at hl 0 rfl) ?_
  refine lv_iconst (v := nI 0) hx hb dX4_utilization_1 (by decide) ?_
  refine pm_put0 (f := f) (f2 := (va_up f 0 (nI 0))) hx hb hts hown hK hP hD hS (hts _ q2482) rfl dX4_utilization_2 (fun H locs hP hD hS => ?_)
  refine lv_iconst (v := nI 0) hx hb dX4_utilization_5 (by decide) ?_
  refine lv_istore_n (lv' := [(1, .int (nI 0)), (0, .ref (h 0))]) hx hb dX4_utilization_6 rfl hl (by decide) rfl (fun ls hl => ?_)
  refine lv_iconst (v := nI 0) hx hb dX4_utilization_7 (by decide) ?_
  refine lv_istore_n (lv' := [(2, .int (nI 0)), (1, .int (nI 0)), (0, .ref (h 0))]) hx hb dX4_utilization_8 rfl hl (by decide) rfl (fun ls hl => ?_)
  have hloop9 : ∀ (n9 : Nat) (i1 : Nat), i1 ≤ K → K - i1 < n9 → ∀ (H : Heap) (locs : List Loc), va_P D pc_Cl (pm_W h cI (va_up f 0 (nI 0)) g) H → va_D A (pm_W h cI (va_up f 0 (nI 0)) g) → va_S A s.heap H locs → ∀ ls : Array Slot, lv_has ls 3 [(1, .int (pc_sum (fun z9 => (g 1) (9 + z9)) i1)), (2, .int (nI i1)), (0, .ref (h 0))] → W p l e ({ frames := 3, cells := 0, slots := 0, locals := 67 } : Room) s m ([.ref (h 0)] : List Value).toArray below meth c H locs 0 0 (MQ below Qc ([.ref (h 0)] : List Value).toArray s 0 0 A) (F0 m 9 ls []) := by
    intro n9
    induction n9 with
    | zero => intro i1 hi1 hm; exact absurd hm (by omega)
    | succ n9 ih9 =>
      intro i1 hi1 hm9 H locs hP hD hS ls hl
      refine lv_iload_n hx hb dX4_utilization_9 rfl (lv_at hl 1 rfl) ?_
      refine lv_aload_n hx hb dX4_utilization_10 rfl (lv_at hl 2 rfl) ?_
      refine va_get (D := D) (ci := 0) (v := .ref (h 1)) (C := RX4) (T := TX4) (N := 22) hx hb hts in_X4 hown hK hP 0 rfl rfl 1 (by decide) (hts _ q2483) (fun _ h9 => h9) rfl dX4_utilization_11 ?_
      refine lv_iconst (v := nI 0) hx hb dX4_utilization_14 (by decide) ?_
      refine pn_iald (e9 := 0) (f := g 1) hx hb hK hP 1 0 rfl rfl (by omega) (by decide) dX4_utilization_15 ?_
      refine pn_top hK0 ?_
      refine pn_icmp_ge (tgt := 37) hx hb (by omega) (by omega) dX4_utilization_16 (by decide) (fun c1 => ?_) (fun c1 => ?_)
      · have eK : i1 = K := by omega
        rw [eK] at hl
        refine lv_iload_n hx hb dX4_utilization_37 rfl (lv_at hl 0 rfl) ?_
        refine lv_if_ne (tgt := 45) hx hb dX4_utilization_38 (by decide) (fun c2 => ?_) (fun c2 => ?_)
        · refine lv_aload_n hx hb dX4_utilization_45 rfl (lv_at hl 2 rfl) ?_
          refine pm_callI (n := 0) [] hx hb hml hown hts hA hK (m_held l D h cI (va_up f 0 (nI 0)) g K N (by first | assumption | omega | rfl) (by first | assumption | omega | rfl) (by first | assumption | omega | rfl) (by first | assumption | omega | rfl)) (lw_V q2594 q2596 qs59 q122 q2597) ⟨rfl, rfl⟩ (by decide +kernel) ⟨Nat.le_of_ble_eq_true rfl, Nat.le_of_ble_eq_true rfl⟩ hP hD hS rfl hl.1 rfl (Nat.le_of_ble_eq_true rfl) ⟨Nat.zero_le _, Nat.zero_le _⟩ dX4_utilization_46 (fun H locs hP hD hS => ?_)
          refine lv_i2f hx hb dX4_utilization_49 ?_
          refine lv_iload_n hx hb dX4_utilization_50 rfl (lv_at hl 0 rfl) ?_
          refine lv_i2f hx hb dX4_utilization_51 ?_
          refine lv_fdiv hx hb dX4_utilization_52 (hne c2) ?_
          exact pm_retF hx hb hlk hr hq hP hD hS dX4_utilization_53 (by first | exact (if_neg (show ¬ pc_tot (g 1) K = 0 from c2)).symm | exact (if_pos (show pc_tot (g 1) K = 0 from c2)).symm) rfl
        · refine lv_fconst0 hx hb dX4_utilization_41 ?_
          refine lv_goto (tgt := 53) hx hb dX4_utilization_42 (by decide) ?_
          exact pm_retF hx hb hlk hr hq hP hD hS dX4_utilization_53 (by first | exact (if_neg (show ¬ pc_tot (g 1) K = 0 from c2)).symm | exact (if_pos (show pc_tot (g 1) K = 0 from c2)).symm) rfl
      · refine lv_iload_n hx hb dX4_utilization_19 rfl (lv_at hl 0 rfl) ?_
        refine lv_aload_n hx hb dX4_utilization_20 rfl (lv_at hl 2 rfl) ?_
        refine va_get (D := D) (ci := 0) (v := .ref (h 1)) (C := RX4) (T := TX4) (N := 22) hx hb hts in_X4 hown hK hP 0 rfl rfl 1 (by decide) (hts _ q2483) (fun _ h9 => h9) rfl dX4_utilization_21 ?_
        refine lv_bipush (v := nI 9) hx hb dX4_utilization_24 (by decide) ?_
        refine lv_iload_n hx hb dX4_utilization_26 rfl (lv_at hl 1 rfl) ?_
        refine pn_iadd hx hb dX4_utilization_27 ?_
        refine pn_iald (e9 := 9 + i1) (f := g 1) hx hb hK hP 1 0 rfl rfl (by omega) (by decide) dX4_utilization_28 ?_
        refine lv_iadd hx hb dX4_utilization_29 ?_
        refine lv_istore_n (lv' := [(1, .int ((pc_sum (fun z9 => (g 1) (9 + z9)) i1) + ((g 1) (9 + i1)))), (2, .int (nI i1)), (0, .ref (h 0))]) hx hb dX4_utilization_30 rfl hl (by decide) rfl (fun ls hl => ?_)
        refine lv_iinc (v := nI (i1 + 1)) (lv' := [(2, .int (nI (i1 + 1))), (1, .int ((pc_sum (fun z9 => (g 1) (9 + z9)) i1) + ((g 1) (9 + i1)))), (0, .ref (h 0))]) hx hb dX4_utilization_31 hl (k := 1) rfl (nI_1 _) (by decide) rfl (fun ls hl => ?_)
        refine lv_goto (tgt := 9) hx hb dX4_utilization_34 (by decide) ?_
        exact ih9 (i1 + 1) (by first | assumption | omega) (by omega) _ _ hP hD hS _ (lv_sub hl [1, 0, 2] rfl)
  exact hloop9 (K - 0 + 1) 0 (by first | assumption | omega) (by omega) _ _ hP hD hS _ (lv_sub hl [1, 0, 2] rfl)

set_option maxHeartbeats 4000000 in
theorem m_claim_ok (l : Launch) (D : va_G) (h : Nat → Nat) (cI : ClassId) (f : Nat → Int32) (g : Nat → Nat → Int32) (B : Nat) (K : Nat) (N : Nat) (wl : List Nat) (o : Nat) (k : Nat) (hI : pc_inv B (g 1) K N wl) (ho : o < N) (hk : k < K) : pm_C l yX4_claim (ws_ yX4_claim cX4_claim 3 (some .int)) ({ frames := 3, cells := 0, slots := 0, locals := 65 } : Room) D h cI [.ref (h 0), .int (nI o), .int (nI k)] f g (some (.int (pc_of (g 1) o (0 + k)))) (va_up f 0 (nI 0)) g := by
  refine pm_enter (cc := cX4_claim) (maxL := 3) (ret := (some .int)) (by decide) (Nat.le_of_ble_eq_true rfl) ?_
  intro p e s m below meth c A Qc ls hx hb hml hown hts hlk hA hK hP hD hS hr hq hl
  have hl : lv_has ls 3 [(0, .ref (h 0)), (1, .int (nI o)), (2, .int (nI k))] := hl
  have hN := hI.N0
  have hK0 := hI.K0
  have hN8 := hI.N8
  have hK4 := hI.K4
  have hN1 := hI.N1
  have hK1 := hI.K1
  have hwt := hI.waiting
  have hln := hI.len
  refine lv_aload_n hx hb dX4_claim_0 rfl (lv_at hl 0 rfl) ?_
  refine lv_iconst (v := nI 0) hx hb dX4_claim_1 (by decide) ?_
  refine pm_put0 (f := f) (f2 := (va_up f 0 (nI 0))) hx hb hts hown hK hP hD hS (hts _ q2482) rfl dX4_claim_2 (fun H locs hP hD hS => ?_)
  refine lv_aload_n hx hb dX4_claim_5 rfl (lv_at hl 0 rfl) ?_
  refine lv_iload_n hx hb dX4_claim_6 rfl (lv_at hl 1 rfl) ?_
  refine lv_iload_n hx hb dX4_claim_7 rfl (lv_at hl 2 rfl) ?_
  refine pm_callI (n := 2) [] hx hb hml hown hts hA hK (m_noPair_ok l D h cI (va_up f 0 (nI 0)) g K N o k (by first | assumption | omega | rfl) (by first | assumption | omega | rfl) (by first | assumption | omega | rfl) (by first | assumption | omega | rfl) (by first | assumption | omega | rfl) (by first | assumption | omega | rfl) (by first | assumption | omega | rfl)) (lw_V q2606 q2608 qs60 q122 q2609) ⟨rfl, rfl⟩ (by decide +kernel) ⟨Nat.le_of_ble_eq_true rfl, Nat.le_of_ble_eq_true rfl⟩ hP hD hS rfl hl.1 rfl (Nat.le_of_ble_eq_true rfl) ⟨Nat.zero_le _, Nat.zero_le _⟩ dX4_claim_8 (fun H locs hP hD hS => ?_)
  refine pb_if_eq (tgt := 18) hx hb dX4_claim_11 (by decide) (fun c1 => ?_) (fun c1 => ?_)
  · refine lv_aload_n hx hb dX4_claim_18 rfl (lv_at hl 0 rfl) ?_
    refine lv_iload_n hx hb dX4_claim_19 rfl (lv_at hl 1 rfl) ?_
    refine lv_iconst (v := nI 0) hx hb dX4_claim_20 (by decide) ?_
    refine lv_iload_n hx hb dX4_claim_21 rfl (lv_at hl 2 rfl) ?_
    refine pn_iadd hx hb dX4_claim_22 ?_
    refine pm_callI (n := 2) [] hx hb hml hown hts hA hK (m_of l D h cI (va_up f 0 (nI 0)) g o (0 + k) (by first | assumption | omega | rfl) (by first | assumption | omega | rfl)) (lw_V q2443 q2445 qs48 q122 q2446) ⟨rfl, rfl⟩ (by decide +kernel) ⟨Nat.le_of_ble_eq_true rfl, Nat.le_of_ble_eq_true rfl⟩ hP hD hS rfl hl.1 rfl (Nat.le_of_ble_eq_true rfl) ⟨Nat.zero_le _, Nat.zero_le _⟩ dX4_claim_23 (fun H locs hP hD hS => ?_)
    exact pm_retI hx hb hlk hr hq hP hD hS dX4_claim_26 rfl rfl
  · exfalso; cases c1

set_option maxHeartbeats 4000000 in
theorem m_claim_no (l : Launch) (D : va_G) (h : Nat → Nat) (cI : ClassId) (f : Nat → Int32) (g : Nat → Nat → Int32) (B : Nat) (K : Nat) (N : Nat) (wl : List Nat) (x8 : Int32) (y8 : Int32) (hI : pc_inv B (g 1) K N wl) (hx8 : pc_inr x8 (nI 0) (nI (N - 1)) = false) : pm_C l yX4_claim (ws_ yX4_claim cX4_claim 3 (some .int)) ({ frames := 3, cells := 0, slots := 0, locals := 65 } : Room) D h cI [.ref (h 0), .int (x8), .int (y8)] f g (some (.int (nI 0))) (va_up f 0 (nI 1)) g := by
  refine pm_enter (cc := cX4_claim) (maxL := 3) (ret := (some .int)) (by decide) (Nat.le_of_ble_eq_true rfl) ?_
  intro p e s m below meth c A Qc ls hx hb hml hown hts hlk hA hK hP hD hS hr hq hl
  have hl : lv_has ls 3 [(0, .ref (h 0)), (1, .int (x8)), (2, .int (y8))] := hl
  have hN := hI.N0
  have hK0 := hI.K0
  have hN8 := hI.N8
  have hK4 := hI.K4
  have hN1 := hI.N1
  have hK1 := hI.K1
  have hwt := hI.waiting
  have hln := hI.len
  refine lv_aload_n hx hb dX4_claim_0 rfl (lv_at hl 0 rfl) ?_
  refine lv_iconst (v := nI 0) hx hb dX4_claim_1 (by decide) ?_
  refine pm_put0 (f := f) (f2 := (va_up f 0 (nI 0))) hx hb hts hown hK hP hD hS (hts _ q2482) rfl dX4_claim_2 (fun H locs hP hD hS => ?_)
  refine lv_aload_n hx hb dX4_claim_5 rfl (lv_at hl 0 rfl) ?_
  refine lv_iload_n hx hb dX4_claim_6 rfl (lv_at hl 1 rfl) ?_
  refine lv_iload_n hx hb dX4_claim_7 rfl (lv_at hl 2 rfl) ?_
  refine pm_callI (n := 2) [] hx hb hml hown hts hA hK (m_noPair_no l D h cI (va_up f 0 (nI 0)) g N x8 y8 (by first | assumption | omega | rfl) (by first | assumption | omega | rfl) (by first | assumption | omega | rfl) (by first | assumption | omega | rfl) (by first | assumption | omega | rfl)) (lw_V q2606 q2608 qs60 q122 q2609) ⟨rfl, rfl⟩ (by decide +kernel) ⟨Nat.le_of_ble_eq_true rfl, Nat.le_of_ble_eq_true rfl⟩ hP hD hS rfl hl.1 rfl (Nat.le_of_ble_eq_true rfl) ⟨Nat.zero_le _, Nat.zero_le _⟩ dX4_claim_8 (fun H locs hP hD hS => ?_)
  have hP : va_P D pc_Cl (pm_W h cI (va_up f 0 (nI 1)) g) H := hP
  have hD : va_D A (pm_W h cI (va_up f 0 (nI 1)) g) := hD
  refine pb_if_eq (tgt := 18) hx hb dX4_claim_11 (by decide) (fun c1 => ?_) (fun c1 => ?_)
  · exfalso; cases c1
  · refine lv_iconst (v := nI 0) hx hb dX4_claim_14 (by decide) ?_
    refine lv_goto (tgt := 26) hx hb dX4_claim_15 (by decide) ?_
    exact pm_retI hx hb hlk hr hq hP hD hS dX4_claim_26 rfl rfl

set_option maxHeartbeats 4000000 in
theorem m_claim_nk (l : Launch) (D : va_G) (h : Nat → Nat) (cI : ClassId) (f : Nat → Int32) (g : Nat → Nat → Int32) (B : Nat) (K : Nat) (N : Nat) (wl : List Nat) (o : Nat) (y8 : Int32) (hI : pc_inv B (g 1) K N wl) (ho : o < N) (hx8 : pc_inr y8 (nI 0) (nI (K - 1)) = false) : pm_C l yX4_claim (ws_ yX4_claim cX4_claim 3 (some .int)) ({ frames := 3, cells := 0, slots := 0, locals := 65 } : Room) D h cI [.ref (h 0), .int (nI o), .int (y8)] f g (some (.int (nI 0))) (va_up f 0 (nI 1)) g := by
  refine pm_enter (cc := cX4_claim) (maxL := 3) (ret := (some .int)) (by decide) (Nat.le_of_ble_eq_true rfl) ?_
  intro p e s m below meth c A Qc ls hx hb hml hown hts hlk hA hK hP hD hS hr hq hl
  have hl : lv_has ls 3 [(0, .ref (h 0)), (1, .int (nI o)), (2, .int (y8))] := hl
  have hN := hI.N0
  have hK0 := hI.K0
  have hN8 := hI.N8
  have hK4 := hI.K4
  have hN1 := hI.N1
  have hK1 := hI.K1
  have hwt := hI.waiting
  have hln := hI.len
  refine lv_aload_n hx hb dX4_claim_0 rfl (lv_at hl 0 rfl) ?_
  refine lv_iconst (v := nI 0) hx hb dX4_claim_1 (by decide) ?_
  refine pm_put0 (f := f) (f2 := (va_up f 0 (nI 0))) hx hb hts hown hK hP hD hS (hts _ q2482) rfl dX4_claim_2 (fun H locs hP hD hS => ?_)
  refine lv_aload_n hx hb dX4_claim_5 rfl (lv_at hl 0 rfl) ?_
  refine lv_iload_n hx hb dX4_claim_6 rfl (lv_at hl 1 rfl) ?_
  refine lv_iload_n hx hb dX4_claim_7 rfl (lv_at hl 2 rfl) ?_
  refine pm_callI (n := 2) [] hx hb hml hown hts hA hK (m_noPair_nk l D h cI (va_up f 0 (nI 0)) g K N o y8 (by first | assumption | omega | rfl) (by first | assumption | omega | rfl) (by first | assumption | omega | rfl) (by first | assumption | omega | rfl) (by first | assumption | omega | rfl) (by first | assumption | omega | rfl) (by first | assumption | omega | rfl) (by first | assumption | omega | rfl)) (lw_V q2606 q2608 qs60 q122 q2609) ⟨rfl, rfl⟩ (by decide +kernel) ⟨Nat.le_of_ble_eq_true rfl, Nat.le_of_ble_eq_true rfl⟩ hP hD hS rfl hl.1 rfl (Nat.le_of_ble_eq_true rfl) ⟨Nat.zero_le _, Nat.zero_le _⟩ dX4_claim_8 (fun H locs hP hD hS => ?_)
  have hP : va_P D pc_Cl (pm_W h cI (va_up f 0 (nI 1)) g) H := hP
  have hD : va_D A (pm_W h cI (va_up f 0 (nI 1)) g) := hD
  refine pb_if_eq (tgt := 18) hx hb dX4_claim_11 (by decide) (fun c1 => ?_) (fun c1 => ?_)
  · exfalso; cases c1
  · refine lv_iconst (v := nI 0) hx hb dX4_claim_14 (by decide) ?_
    refine lv_goto (tgt := 26) hx hb dX4_claim_15 (by decide) ?_
    exact pm_retI hx hb hlk hr hq hP hD hS dX4_claim_26 rfl rfl

set_option maxHeartbeats 4000000 in
theorem m_allocated_ok (l : Launch) (D : va_G) (h : Nat → Nat) (cI : ClassId) (f : Nat → Int32) (g : Nat → Nat → Int32) (B : Nat) (K : Nat) (N : Nat) (wl : List Nat) (o : Nat) (k : Nat) (hI : pc_inv B (g 1) K N wl) (ho : o < N) (hk : k < K) : pm_C l yX4_allocated (ws_ yX4_allocated cX4_allocated 3 (some .int)) ({ frames := 3, cells := 0, slots := 0, locals := 65 } : Room) D h cI [.ref (h 0), .int (nI o), .int (nI k)] f g (some (.int (pc_of (g 1) o (4 + k)))) (va_up f 0 (nI 0)) g := by
  refine pm_enter (cc := cX4_allocated) (maxL := 3) (ret := (some .int)) (by decide) (Nat.le_of_ble_eq_true rfl) ?_
  intro p e s m below meth c A Qc ls hx hb hml hown hts hlk hA hK hP hD hS hr hq hl
  have hl : lv_has ls 3 [(0, .ref (h 0)), (1, .int (nI o)), (2, .int (nI k))] := hl
  have hN := hI.N0
  have hK0 := hI.K0
  have hN8 := hI.N8
  have hK4 := hI.K4
  have hN1 := hI.N1
  have hK1 := hI.K1
  have hwt := hI.waiting
  have hln := hI.len
  refine lv_aload_n hx hb dX4_allocated_0 rfl (lv_at hl 0 rfl) ?_
  refine lv_iconst (v := nI 0) hx hb dX4_allocated_1 (by decide) ?_
  refine pm_put0 (f := f) (f2 := (va_up f 0 (nI 0))) hx hb hts hown hK hP hD hS (hts _ q2482) rfl dX4_allocated_2 (fun H locs hP hD hS => ?_)
  refine lv_aload_n hx hb dX4_allocated_5 rfl (lv_at hl 0 rfl) ?_
  refine lv_iload_n hx hb dX4_allocated_6 rfl (lv_at hl 1 rfl) ?_
  refine lv_iload_n hx hb dX4_allocated_7 rfl (lv_at hl 2 rfl) ?_
  refine pm_callI (n := 2) [] hx hb hml hown hts hA hK (m_noPair_ok l D h cI (va_up f 0 (nI 0)) g K N o k (by first | assumption | omega | rfl) (by first | assumption | omega | rfl) (by first | assumption | omega | rfl) (by first | assumption | omega | rfl) (by first | assumption | omega | rfl) (by first | assumption | omega | rfl) (by first | assumption | omega | rfl)) (lw_V q2606 q2608 qs60 q122 q2609) ⟨rfl, rfl⟩ (by decide +kernel) ⟨Nat.le_of_ble_eq_true rfl, Nat.le_of_ble_eq_true rfl⟩ hP hD hS rfl hl.1 rfl (Nat.le_of_ble_eq_true rfl) ⟨Nat.zero_le _, Nat.zero_le _⟩ dX4_allocated_8 (fun H locs hP hD hS => ?_)
  refine pb_if_eq (tgt := 18) hx hb dX4_allocated_11 (by decide) (fun c1 => ?_) (fun c1 => ?_)
  · refine lv_aload_n hx hb dX4_allocated_18 rfl (lv_at hl 0 rfl) ?_
    refine lv_iload_n hx hb dX4_allocated_19 rfl (lv_at hl 1 rfl) ?_
    refine lv_iconst (v := nI 4) hx hb dX4_allocated_20 (by decide) ?_
    refine lv_iload_n hx hb dX4_allocated_21 rfl (lv_at hl 2 rfl) ?_
    refine pn_iadd hx hb dX4_allocated_22 ?_
    refine pm_callI (n := 2) [] hx hb hml hown hts hA hK (m_of l D h cI (va_up f 0 (nI 0)) g o (4 + k) (by first | assumption | omega | rfl) (by first | assumption | omega | rfl)) (lw_V q2443 q2445 qs48 q122 q2446) ⟨rfl, rfl⟩ (by decide +kernel) ⟨Nat.le_of_ble_eq_true rfl, Nat.le_of_ble_eq_true rfl⟩ hP hD hS rfl hl.1 rfl (Nat.le_of_ble_eq_true rfl) ⟨Nat.zero_le _, Nat.zero_le _⟩ dX4_allocated_23 (fun H locs hP hD hS => ?_)
    exact pm_retI hx hb hlk hr hq hP hD hS dX4_allocated_26 rfl rfl
  · exfalso; cases c1

set_option maxHeartbeats 4000000 in
theorem m_allocated_no (l : Launch) (D : va_G) (h : Nat → Nat) (cI : ClassId) (f : Nat → Int32) (g : Nat → Nat → Int32) (B : Nat) (K : Nat) (N : Nat) (wl : List Nat) (x8 : Int32) (y8 : Int32) (hI : pc_inv B (g 1) K N wl) (hx8 : pc_inr x8 (nI 0) (nI (N - 1)) = false) : pm_C l yX4_allocated (ws_ yX4_allocated cX4_allocated 3 (some .int)) ({ frames := 3, cells := 0, slots := 0, locals := 65 } : Room) D h cI [.ref (h 0), .int (x8), .int (y8)] f g (some (.int (nI 0))) (va_up f 0 (nI 1)) g := by
  refine pm_enter (cc := cX4_allocated) (maxL := 3) (ret := (some .int)) (by decide) (Nat.le_of_ble_eq_true rfl) ?_
  intro p e s m below meth c A Qc ls hx hb hml hown hts hlk hA hK hP hD hS hr hq hl
  have hl : lv_has ls 3 [(0, .ref (h 0)), (1, .int (x8)), (2, .int (y8))] := hl
  have hN := hI.N0
  have hK0 := hI.K0
  have hN8 := hI.N8
  have hK4 := hI.K4
  have hN1 := hI.N1
  have hK1 := hI.K1
  have hwt := hI.waiting
  have hln := hI.len
  refine lv_aload_n hx hb dX4_allocated_0 rfl (lv_at hl 0 rfl) ?_
  refine lv_iconst (v := nI 0) hx hb dX4_allocated_1 (by decide) ?_
  refine pm_put0 (f := f) (f2 := (va_up f 0 (nI 0))) hx hb hts hown hK hP hD hS (hts _ q2482) rfl dX4_allocated_2 (fun H locs hP hD hS => ?_)
  refine lv_aload_n hx hb dX4_allocated_5 rfl (lv_at hl 0 rfl) ?_
  refine lv_iload_n hx hb dX4_allocated_6 rfl (lv_at hl 1 rfl) ?_
  refine lv_iload_n hx hb dX4_allocated_7 rfl (lv_at hl 2 rfl) ?_
  refine pm_callI (n := 2) [] hx hb hml hown hts hA hK (m_noPair_no l D h cI (va_up f 0 (nI 0)) g N x8 y8 (by first | assumption | omega | rfl) (by first | assumption | omega | rfl) (by first | assumption | omega | rfl) (by first | assumption | omega | rfl) (by first | assumption | omega | rfl)) (lw_V q2606 q2608 qs60 q122 q2609) ⟨rfl, rfl⟩ (by decide +kernel) ⟨Nat.le_of_ble_eq_true rfl, Nat.le_of_ble_eq_true rfl⟩ hP hD hS rfl hl.1 rfl (Nat.le_of_ble_eq_true rfl) ⟨Nat.zero_le _, Nat.zero_le _⟩ dX4_allocated_8 (fun H locs hP hD hS => ?_)
  have hP : va_P D pc_Cl (pm_W h cI (va_up f 0 (nI 1)) g) H := hP
  have hD : va_D A (pm_W h cI (va_up f 0 (nI 1)) g) := hD
  refine pb_if_eq (tgt := 18) hx hb dX4_allocated_11 (by decide) (fun c1 => ?_) (fun c1 => ?_)
  · exfalso; cases c1
  · refine lv_iconst (v := nI 0) hx hb dX4_allocated_14 (by decide) ?_
    refine lv_goto (tgt := 26) hx hb dX4_allocated_15 (by decide) ?_
    exact pm_retI hx hb hlk hr hq hP hD hS dX4_allocated_26 rfl rfl

set_option maxHeartbeats 4000000 in
theorem m_allocated_nk (l : Launch) (D : va_G) (h : Nat → Nat) (cI : ClassId) (f : Nat → Int32) (g : Nat → Nat → Int32) (B : Nat) (K : Nat) (N : Nat) (wl : List Nat) (o : Nat) (y8 : Int32) (hI : pc_inv B (g 1) K N wl) (ho : o < N) (hx8 : pc_inr y8 (nI 0) (nI (K - 1)) = false) : pm_C l yX4_allocated (ws_ yX4_allocated cX4_allocated 3 (some .int)) ({ frames := 3, cells := 0, slots := 0, locals := 65 } : Room) D h cI [.ref (h 0), .int (nI o), .int (y8)] f g (some (.int (nI 0))) (va_up f 0 (nI 1)) g := by
  refine pm_enter (cc := cX4_allocated) (maxL := 3) (ret := (some .int)) (by decide) (Nat.le_of_ble_eq_true rfl) ?_
  intro p e s m below meth c A Qc ls hx hb hml hown hts hlk hA hK hP hD hS hr hq hl
  have hl : lv_has ls 3 [(0, .ref (h 0)), (1, .int (nI o)), (2, .int (y8))] := hl
  have hN := hI.N0
  have hK0 := hI.K0
  have hN8 := hI.N8
  have hK4 := hI.K4
  have hN1 := hI.N1
  have hK1 := hI.K1
  have hwt := hI.waiting
  have hln := hI.len
  refine lv_aload_n hx hb dX4_allocated_0 rfl (lv_at hl 0 rfl) ?_
  refine lv_iconst (v := nI 0) hx hb dX4_allocated_1 (by decide) ?_
  refine pm_put0 (f := f) (f2 := (va_up f 0 (nI 0))) hx hb hts hown hK hP hD hS (hts _ q2482) rfl dX4_allocated_2 (fun H locs hP hD hS => ?_)
  refine lv_aload_n hx hb dX4_allocated_5 rfl (lv_at hl 0 rfl) ?_
  refine lv_iload_n hx hb dX4_allocated_6 rfl (lv_at hl 1 rfl) ?_
  refine lv_iload_n hx hb dX4_allocated_7 rfl (lv_at hl 2 rfl) ?_
  refine pm_callI (n := 2) [] hx hb hml hown hts hA hK (m_noPair_nk l D h cI (va_up f 0 (nI 0)) g K N o y8 (by first | assumption | omega | rfl) (by first | assumption | omega | rfl) (by first | assumption | omega | rfl) (by first | assumption | omega | rfl) (by first | assumption | omega | rfl) (by first | assumption | omega | rfl) (by first | assumption | omega | rfl) (by first | assumption | omega | rfl)) (lw_V q2606 q2608 qs60 q122 q2609) ⟨rfl, rfl⟩ (by decide +kernel) ⟨Nat.le_of_ble_eq_true rfl, Nat.le_of_ble_eq_true rfl⟩ hP hD hS rfl hl.1 rfl (Nat.le_of_ble_eq_true rfl) ⟨Nat.zero_le _, Nat.zero_le _⟩ dX4_allocated_8 (fun H locs hP hD hS => ?_)
  have hP : va_P D pc_Cl (pm_W h cI (va_up f 0 (nI 1)) g) H := hP
  have hD : va_D A (pm_W h cI (va_up f 0 (nI 1)) g) := hD
  refine pb_if_eq (tgt := 18) hx hb dX4_allocated_11 (by decide) (fun c1 => ?_) (fun c1 => ?_)
  · exfalso; cases c1
  · refine lv_iconst (v := nI 0) hx hb dX4_allocated_14 (by decide) ?_
    refine lv_goto (tgt := 26) hx hb dX4_allocated_15 (by decide) ?_
    exact pm_retI hx hb hlk hr hq hP hD hS dX4_allocated_26 rfl rfl

set_option maxHeartbeats 4000000 in
theorem m_need_ok (l : Launch) (D : va_G) (h : Nat → Nat) (cI : ClassId) (f : Nat → Int32) (g : Nat → Nat → Int32) (B : Nat) (K : Nat) (N : Nat) (wl : List Nat) (o : Nat) (k : Nat) (hI : pc_inv B (g 1) K N wl) (ho : o < N) (hk : k < K) : pm_C l yX4_need (ws_ yX4_need cX4_need 3 (some .int)) ({ frames := 3, cells := 0, slots := 0, locals := 65 } : Room) D h cI [.ref (h 0), .int (nI o), .int (nI k)] f g (some (.int (pc_need (g 1) o k))) (va_up f 0 (nI 0)) g := by
  refine pm_enter (cc := cX4_need) (maxL := 3) (ret := (some .int)) (by decide) (Nat.le_of_ble_eq_true rfl) ?_
  intro p e s m below meth c A Qc ls hx hb hml hown hts hlk hA hK hP hD hS hr hq hl
  have hl : lv_has ls 3 [(0, .ref (h 0)), (1, .int (nI o)), (2, .int (nI k))] := hl
  have hN := hI.N0
  have hK0 := hI.K0
  have hN8 := hI.N8
  have hK4 := hI.K4
  have hN1 := hI.N1
  have hK1 := hI.K1
  have hwt := hI.waiting
  have hln := hI.len
  refine lv_aload_n hx hb dX4_need_0 rfl (lv_at hl 0 rfl) ?_
  refine lv_iconst (v := nI 0) hx hb dX4_need_1 (by decide) ?_
  refine pm_put0 (f := f) (f2 := (va_up f 0 (nI 0))) hx hb hts hown hK hP hD hS (hts _ q2482) rfl dX4_need_2 (fun H locs hP hD hS => ?_)
  refine lv_aload_n hx hb dX4_need_5 rfl (lv_at hl 0 rfl) ?_
  refine lv_iload_n hx hb dX4_need_6 rfl (lv_at hl 1 rfl) ?_
  refine lv_iload_n hx hb dX4_need_7 rfl (lv_at hl 2 rfl) ?_
  refine pm_callI (n := 2) [] hx hb hml hown hts hA hK (m_noPair_ok l D h cI (va_up f 0 (nI 0)) g K N o k (by first | assumption | omega | rfl) (by first | assumption | omega | rfl) (by first | assumption | omega | rfl) (by first | assumption | omega | rfl) (by first | assumption | omega | rfl) (by first | assumption | omega | rfl) (by first | assumption | omega | rfl)) (lw_V q2606 q2608 qs60 q122 q2609) ⟨rfl, rfl⟩ (by decide +kernel) ⟨Nat.le_of_ble_eq_true rfl, Nat.le_of_ble_eq_true rfl⟩ hP hD hS rfl hl.1 rfl (Nat.le_of_ble_eq_true rfl) ⟨Nat.zero_le _, Nat.zero_le _⟩ dX4_need_8 (fun H locs hP hD hS => ?_)
  refine pb_if_eq (tgt := 18) hx hb dX4_need_11 (by decide) (fun c1 => ?_) (fun c1 => ?_)
  · refine lv_aload_n hx hb dX4_need_18 rfl (lv_at hl 0 rfl) ?_
    refine lv_iload_n hx hb dX4_need_19 rfl (lv_at hl 1 rfl) ?_
    refine lv_iload_n hx hb dX4_need_20 rfl (lv_at hl 2 rfl) ?_
    refine pm_callI (n := 2) [] hx hb hml hown hts hA hK (m_needOf l D h cI (va_up f 0 (nI 0)) g o k (by first | assumption | omega | rfl) (by first | assumption | omega | rfl)) (lw_V q2474 q2476 qs55 q122 q2477) ⟨rfl, rfl⟩ (by decide +kernel) ⟨Nat.le_of_ble_eq_true rfl, Nat.le_of_ble_eq_true rfl⟩ hP hD hS rfl hl.1 rfl (Nat.le_of_ble_eq_true rfl) ⟨Nat.zero_le _, Nat.zero_le _⟩ dX4_need_21 (fun H locs hP hD hS => ?_)
    exact pm_retI hx hb hlk hr hq hP hD hS dX4_need_24 rfl rfl
  · exfalso; cases c1

set_option maxHeartbeats 4000000 in
theorem m_need_no (l : Launch) (D : va_G) (h : Nat → Nat) (cI : ClassId) (f : Nat → Int32) (g : Nat → Nat → Int32) (B : Nat) (K : Nat) (N : Nat) (wl : List Nat) (x8 : Int32) (y8 : Int32) (hI : pc_inv B (g 1) K N wl) (hx8 : pc_inr x8 (nI 0) (nI (N - 1)) = false) : pm_C l yX4_need (ws_ yX4_need cX4_need 3 (some .int)) ({ frames := 3, cells := 0, slots := 0, locals := 65 } : Room) D h cI [.ref (h 0), .int (x8), .int (y8)] f g (some (.int (nI 0))) (va_up f 0 (nI 1)) g := by
  refine pm_enter (cc := cX4_need) (maxL := 3) (ret := (some .int)) (by decide) (Nat.le_of_ble_eq_true rfl) ?_
  intro p e s m below meth c A Qc ls hx hb hml hown hts hlk hA hK hP hD hS hr hq hl
  have hl : lv_has ls 3 [(0, .ref (h 0)), (1, .int (x8)), (2, .int (y8))] := hl
  have hN := hI.N0
  have hK0 := hI.K0
  have hN8 := hI.N8
  have hK4 := hI.K4
  have hN1 := hI.N1
  have hK1 := hI.K1
  have hwt := hI.waiting
  have hln := hI.len
  refine lv_aload_n hx hb dX4_need_0 rfl (lv_at hl 0 rfl) ?_
  refine lv_iconst (v := nI 0) hx hb dX4_need_1 (by decide) ?_
  refine pm_put0 (f := f) (f2 := (va_up f 0 (nI 0))) hx hb hts hown hK hP hD hS (hts _ q2482) rfl dX4_need_2 (fun H locs hP hD hS => ?_)
  refine lv_aload_n hx hb dX4_need_5 rfl (lv_at hl 0 rfl) ?_
  refine lv_iload_n hx hb dX4_need_6 rfl (lv_at hl 1 rfl) ?_
  refine lv_iload_n hx hb dX4_need_7 rfl (lv_at hl 2 rfl) ?_
  refine pm_callI (n := 2) [] hx hb hml hown hts hA hK (m_noPair_no l D h cI (va_up f 0 (nI 0)) g N x8 y8 (by first | assumption | omega | rfl) (by first | assumption | omega | rfl) (by first | assumption | omega | rfl) (by first | assumption | omega | rfl) (by first | assumption | omega | rfl)) (lw_V q2606 q2608 qs60 q122 q2609) ⟨rfl, rfl⟩ (by decide +kernel) ⟨Nat.le_of_ble_eq_true rfl, Nat.le_of_ble_eq_true rfl⟩ hP hD hS rfl hl.1 rfl (Nat.le_of_ble_eq_true rfl) ⟨Nat.zero_le _, Nat.zero_le _⟩ dX4_need_8 (fun H locs hP hD hS => ?_)
  have hP : va_P D pc_Cl (pm_W h cI (va_up f 0 (nI 1)) g) H := hP
  have hD : va_D A (pm_W h cI (va_up f 0 (nI 1)) g) := hD
  refine pb_if_eq (tgt := 18) hx hb dX4_need_11 (by decide) (fun c1 => ?_) (fun c1 => ?_)
  · exfalso; cases c1
  · refine lv_iconst (v := nI 0) hx hb dX4_need_14 (by decide) ?_
    refine lv_goto (tgt := 24) hx hb dX4_need_15 (by decide) ?_
    exact pm_retI hx hb hlk hr hq hP hD hS dX4_need_24 rfl rfl

set_option maxHeartbeats 4000000 in
theorem m_need_nk (l : Launch) (D : va_G) (h : Nat → Nat) (cI : ClassId) (f : Nat → Int32) (g : Nat → Nat → Int32) (B : Nat) (K : Nat) (N : Nat) (wl : List Nat) (o : Nat) (y8 : Int32) (hI : pc_inv B (g 1) K N wl) (ho : o < N) (hx8 : pc_inr y8 (nI 0) (nI (K - 1)) = false) : pm_C l yX4_need (ws_ yX4_need cX4_need 3 (some .int)) ({ frames := 3, cells := 0, slots := 0, locals := 65 } : Room) D h cI [.ref (h 0), .int (nI o), .int (y8)] f g (some (.int (nI 0))) (va_up f 0 (nI 1)) g := by
  refine pm_enter (cc := cX4_need) (maxL := 3) (ret := (some .int)) (by decide) (Nat.le_of_ble_eq_true rfl) ?_
  intro p e s m below meth c A Qc ls hx hb hml hown hts hlk hA hK hP hD hS hr hq hl
  have hl : lv_has ls 3 [(0, .ref (h 0)), (1, .int (nI o)), (2, .int (y8))] := hl
  have hN := hI.N0
  have hK0 := hI.K0
  have hN8 := hI.N8
  have hK4 := hI.K4
  have hN1 := hI.N1
  have hK1 := hI.K1
  have hwt := hI.waiting
  have hln := hI.len
  refine lv_aload_n hx hb dX4_need_0 rfl (lv_at hl 0 rfl) ?_
  refine lv_iconst (v := nI 0) hx hb dX4_need_1 (by decide) ?_
  refine pm_put0 (f := f) (f2 := (va_up f 0 (nI 0))) hx hb hts hown hK hP hD hS (hts _ q2482) rfl dX4_need_2 (fun H locs hP hD hS => ?_)
  refine lv_aload_n hx hb dX4_need_5 rfl (lv_at hl 0 rfl) ?_
  refine lv_iload_n hx hb dX4_need_6 rfl (lv_at hl 1 rfl) ?_
  refine lv_iload_n hx hb dX4_need_7 rfl (lv_at hl 2 rfl) ?_
  refine pm_callI (n := 2) [] hx hb hml hown hts hA hK (m_noPair_nk l D h cI (va_up f 0 (nI 0)) g K N o y8 (by first | assumption | omega | rfl) (by first | assumption | omega | rfl) (by first | assumption | omega | rfl) (by first | assumption | omega | rfl) (by first | assumption | omega | rfl) (by first | assumption | omega | rfl) (by first | assumption | omega | rfl) (by first | assumption | omega | rfl)) (lw_V q2606 q2608 qs60 q122 q2609) ⟨rfl, rfl⟩ (by decide +kernel) ⟨Nat.le_of_ble_eq_true rfl, Nat.le_of_ble_eq_true rfl⟩ hP hD hS rfl hl.1 rfl (Nat.le_of_ble_eq_true rfl) ⟨Nat.zero_le _, Nat.zero_le _⟩ dX4_need_8 (fun H locs hP hD hS => ?_)
  have hP : va_P D pc_Cl (pm_W h cI (va_up f 0 (nI 1)) g) H := hP
  have hD : va_D A (pm_W h cI (va_up f 0 (nI 1)) g) := hD
  refine pb_if_eq (tgt := 18) hx hb dX4_need_11 (by decide) (fun c1 => ?_) (fun c1 => ?_)
  · exfalso; cases c1
  · refine lv_iconst (v := nI 0) hx hb dX4_need_14 (by decide) ?_
    refine lv_goto (tgt := 24) hx hb dX4_need_15 (by decide) ?_
    exact pm_retI hx hb hlk hr hq hP hD hS dX4_need_24 rfl rfl

set_option maxHeartbeats 4000000 in
theorem m_canFinish_ok (l : Launch) (D : va_G) (h : Nat → Nat) (cI : ClassId) (f : Nat → Int32) (g : Nat → Nat → Int32) (B : Nat) (K : Nat) (N : Nat) (wl : List Nat) (o : Nat) (hI : pc_inv B (g 1) K N wl) (ho : o < N) : pm_C l yX4_canFinish (ws_ yX4_canFinish cX4_canFinish 2 (some .boolean)) ({ frames := 5, cells := 0, slots := 0, locals := 113 } : Room) D h cI [.ref (h 0), .int (nI o)] f g (some (.int (pc_b (pc_fits (g 1) K N o 0)))) (va_up f 0 (nI 0)) g := by
  refine pm_enter (cc := cX4_canFinish) (maxL := 2) (ret := (some .boolean)) (by decide) (Nat.le_of_ble_eq_true rfl) ?_
  intro p e s m below meth c A Qc ls hx hb hml hown hts hlk hA hK hP hD hS hr hq hl
  have hl : lv_has ls 2 [(0, .ref (h 0)), (1, .int (nI o))] := hl
  have hN := hI.N0
  have hK0 := hI.K0
  have hN8 := hI.N8
  have hK4 := hI.K4
  have hN1 := hI.N1
  have hK1 := hI.K1
  have hwt := hI.waiting
  have hln := hI.len
  refine lv_aload_n hx hb dX4_canFinish_0 rfl (lv_at hl 0 rfl) ?_
  refine lv_iconst (v := nI 0) hx hb dX4_canFinish_1 (by decide) ?_
  refine pm_put0 (f := f) (f2 := (va_up f 0 (nI 0))) hx hb hts hown hK hP hD hS (hts _ q2482) rfl dX4_canFinish_2 (fun H locs hP hD hS => ?_)
  refine lv_aload_n hx hb dX4_canFinish_5 rfl (lv_at hl 0 rfl) ?_
  refine lv_iload_n hx hb dX4_canFinish_6 rfl (lv_at hl 1 rfl) ?_
  refine pm_callI (n := 1) [] hx hb hml hown hts hA hK (m_noOffice_ok l D h cI (va_up f 0 (nI 0)) g N o (by first | assumption | omega | rfl) (by first | assumption | omega | rfl) (by first | assumption | omega | rfl) (by first | assumption | omega | rfl)) (lw_V q2610 q2612 qs61 q122 q2613) ⟨rfl, rfl⟩ (by decide +kernel) ⟨Nat.le_of_ble_eq_true rfl, Nat.le_of_ble_eq_true rfl⟩ hP hD hS rfl hl.1 rfl (Nat.le_of_ble_eq_true rfl) ⟨Nat.zero_le _, Nat.zero_le _⟩ dX4_canFinish_7 (fun H locs hP hD hS => ?_)
  refine pb_if_ne (tgt := 26) hx hb dX4_canFinish_10 (by decide) (fun c1 => ?_) (fun c1 => ?_)
  · exfalso; cases c1
  · refine lv_aload_n hx hb dX4_canFinish_13 rfl (lv_at hl 0 rfl) ?_
    refine lv_iload_n hx hb dX4_canFinish_14 rfl (lv_at hl 1 rfl) ?_
    refine lv_iconst (v := nI 0) hx hb dX4_canFinish_15 (by decide) ?_
    refine pm_callI (n := 2) [] hx hb hml hown hts hA hK (m_fits l D h cI (va_up f 0 (nI 0)) g K N o 0 (by first | assumption | omega | rfl) (by first | assumption | omega | rfl) (by first | assumption | omega | rfl) (by first | assumption | omega | rfl) (by first | assumption | omega | rfl) (by first | assumption | omega | rfl)) (lw_V q2470 q2472 qs54 q122 q2473) ⟨rfl, rfl⟩ (by decide +kernel) ⟨Nat.le_of_ble_eq_true rfl, Nat.le_of_ble_eq_true rfl⟩ hP hD hS rfl hl.1 rfl (Nat.le_of_ble_eq_true rfl) ⟨Nat.zero_le _, Nat.zero_le _⟩ dX4_canFinish_16 (fun H locs hP hD hS => ?_)
    refine pb_if_eq (tgt := 26) hx hb dX4_canFinish_19 (by decide) (fun c2 => ?_) (fun c2 => ?_)
    · refine lv_iconst (v := nI 0) hx hb dX4_canFinish_26 (by decide) ?_
      exact pm_retZ hx hb hlk hr hq hP hD hS dX4_canFinish_27 (by rw [c2]; rfl) rfl
    · refine lv_iconst (v := nI 1) hx hb dX4_canFinish_22 (by decide) ?_
      refine lv_goto (tgt := 27) hx hb dX4_canFinish_23 (by decide) ?_
      exact pm_retZ hx hb hlk hr hq hP hD hS dX4_canFinish_27 (by rw [c2]; rfl) rfl

set_option maxHeartbeats 4000000 in
theorem m_canFinish_no (l : Launch) (D : va_G) (h : Nat → Nat) (cI : ClassId) (f : Nat → Int32) (g : Nat → Nat → Int32) (B : Nat) (K : Nat) (N : Nat) (wl : List Nat) (x8 : Int32) (hI : pc_inv B (g 1) K N wl) (hx8 : pc_inr x8 (nI 0) (nI (N - 1)) = false) : pm_C l yX4_canFinish (ws_ yX4_canFinish cX4_canFinish 2 (some .boolean)) ({ frames := 2, cells := 0, slots := 0, locals := 43 } : Room) D h cI [.ref (h 0), .int (x8)] f g (some (.int (pc_b false))) (va_up f 0 (nI 1)) g := by
  refine pm_enter (cc := cX4_canFinish) (maxL := 2) (ret := (some .boolean)) (by decide) (Nat.le_of_ble_eq_true rfl) ?_
  intro p e s m below meth c A Qc ls hx hb hml hown hts hlk hA hK hP hD hS hr hq hl
  have hl : lv_has ls 2 [(0, .ref (h 0)), (1, .int (x8))] := hl
  have hN := hI.N0
  have hK0 := hI.K0
  have hN8 := hI.N8
  have hK4 := hI.K4
  have hN1 := hI.N1
  have hK1 := hI.K1
  have hwt := hI.waiting
  have hln := hI.len
  refine lv_aload_n hx hb dX4_canFinish_0 rfl (lv_at hl 0 rfl) ?_
  refine lv_iconst (v := nI 0) hx hb dX4_canFinish_1 (by decide) ?_
  refine pm_put0 (f := f) (f2 := (va_up f 0 (nI 0))) hx hb hts hown hK hP hD hS (hts _ q2482) rfl dX4_canFinish_2 (fun H locs hP hD hS => ?_)
  refine lv_aload_n hx hb dX4_canFinish_5 rfl (lv_at hl 0 rfl) ?_
  refine lv_iload_n hx hb dX4_canFinish_6 rfl (lv_at hl 1 rfl) ?_
  refine pm_callI (n := 1) [] hx hb hml hown hts hA hK (m_noOffice_no l D h cI (va_up f 0 (nI 0)) g N x8 (by first | assumption | omega | rfl) (by first | assumption | omega | rfl) (by first | assumption | omega | rfl) (by first | assumption | omega | rfl) (by first | assumption | omega | rfl)) (lw_V q2610 q2612 qs61 q122 q2613) ⟨rfl, rfl⟩ (by decide +kernel) ⟨Nat.le_of_ble_eq_true rfl, Nat.le_of_ble_eq_true rfl⟩ hP hD hS rfl hl.1 rfl (Nat.le_of_ble_eq_true rfl) ⟨Nat.zero_le _, Nat.zero_le _⟩ dX4_canFinish_7 (fun H locs hP hD hS => ?_)
  have hP : va_P D pc_Cl (pm_W h cI (va_up f 0 (nI 1)) g) H := hP
  have hD : va_D A (pm_W h cI (va_up f 0 (nI 1)) g) := hD
  refine pb_if_ne (tgt := 26) hx hb dX4_canFinish_10 (by decide) (fun c1 => ?_) (fun c1 => ?_)
  · refine lv_iconst (v := nI 0) hx hb dX4_canFinish_26 (by decide) ?_
    exact pm_retZ hx hb hlk hr hq hP hD hS dX4_canFinish_27 (by rfl) rfl
  · exfalso; cases c1

set_option maxHeartbeats 4000000 in
theorem m_finisherCount (l : Launch) (D : va_G) (h : Nat → Nat) (cI : ClassId) (f : Nat → Int32) (g : Nat → Nat → Int32) (B : Nat) (K : Nat) (N : Nat) (wl : List Nat) (hI : pc_inv B (g 1) K N wl) : pm_C l yX4_finisherCount (ws_ yX4_finisherCount cX4_finisherCount 3 (some .int)) ({ frames := 5, cells := 0, slots := 0, locals := 113 } : Room) D h cI [.ref (h 0)] f g (some (.int (nI (pc_cnt (pc_fin0 (g 1) K N) N)))) (va_up f 0 (nI 0)) g := by
  refine pm_enter (cc := cX4_finisherCount) (maxL := 3) (ret := (some .int)) (by decide) (Nat.le_of_ble_eq_true rfl) ?_
  intro p e s m below meth c A Qc ls hx hb hml hown hts hlk hA hK hP hD hS hr hq hl
  have hl : lv_has ls 3 [(0, .ref (h 0))] := hl
  have hN := hI.N0
  have hK0 := hI.K0
  have hN8 := hI.N8
  have hK4 := hI.K4
  have hN1 := hI.N1
  have hK1 := hI.K1
  have hwt := hI.waiting
  have hln := hI.len
  refine lv_aload_n hx hb dX4_finisherCount_0 rfl (lv_at hl 0 rfl) ?_
  refine lv_iconst (v := nI 0) hx hb dX4_finisherCount_1 (by decide) ?_
  refine pm_put0 (f := f) (f2 := (va_up f 0 (nI 0))) hx hb hts hown hK hP hD hS (hts _ q2482) rfl dX4_finisherCount_2 (fun H locs hP hD hS => ?_)
  refine lv_iconst (v := nI 0) hx hb dX4_finisherCount_5 (by decide) ?_
  refine lv_istore_n (lv' := [(1, .int (nI 0)), (0, .ref (h 0))]) hx hb dX4_finisherCount_6 rfl hl (by decide) rfl (fun ls hl => ?_)
  refine lv_iconst (v := nI 0) hx hb dX4_finisherCount_7 (by decide) ?_
  refine lv_istore_n (lv' := [(2, .int (nI 0)), (1, .int (nI 0)), (0, .ref (h 0))]) hx hb dX4_finisherCount_8 rfl hl (by decide) rfl (fun ls hl => ?_)
  have hloop9 : ∀ (n9 : Nat) (i1 : Nat), i1 ≤ N → N - i1 < n9 → ∀ (H : Heap) (locs : List Loc), va_P D pc_Cl (pm_W h cI (va_up f 0 (nI 0)) g) H → va_D A (pm_W h cI (va_up f 0 (nI 0)) g) → va_S A s.heap H locs → ∀ ls : Array Slot, lv_has ls 3 [(1, .int (nI (pc_cnt (pc_fin0 (g 1) K N) i1))), (2, .int (nI i1)), (0, .ref (h 0))] → W p l e ({ frames := 5, cells := 0, slots := 0, locals := 113 } : Room) s m ([.ref (h 0)] : List Value).toArray below meth c H locs 0 0 (MQ below Qc ([.ref (h 0)] : List Value).toArray s 0 0 A) (F0 m 9 ls []) := by
    intro n9
    induction n9 with
    | zero => intro i1 hi1 hm; exact absurd hm (by omega)
    | succ n9 ih9 =>
      intro i1 hi1 hm9 H locs hP hD hS ls hl
      refine lv_iload_n hx hb dX4_finisherCount_9 rfl (lv_at hl 1 rfl) ?_
      refine lv_aload_n hx hb dX4_finisherCount_10 rfl (lv_at hl 2 rfl) ?_
      refine va_get (D := D) (ci := 0) (v := .ref (h 1)) (C := RX4) (T := TX4) (N := 22) hx hb hts in_X4 hown hK hP 0 rfl rfl 1 (by decide) (hts _ q2483) (fun _ h9 => h9) rfl dX4_finisherCount_11 ?_
      refine lv_iconst (v := nI 1) hx hb dX4_finisherCount_14 (by decide) ?_
      refine pn_iald (e9 := 1) (f := g 1) hx hb hK hP 1 0 rfl rfl (by omega) (by decide) dX4_finisherCount_15 ?_
      refine pn_top hN ?_
      refine pn_icmp_ge (tgt := 37) hx hb (by omega) (by omega) dX4_finisherCount_16 (by decide) (fun c1 => ?_) (fun c1 => ?_)
      · refine lv_iload_n hx hb dX4_finisherCount_37 rfl (lv_at hl 0 rfl) ?_
        exact pm_retI hx hb hlk hr hq hP hD hS dX4_finisherCount_38 (by rw [show i1 = N from by omega]) rfl
      · refine lv_iload_n hx hb dX4_finisherCount_19 rfl (lv_at hl 0 rfl) ?_
        refine lv_aload_n hx hb dX4_finisherCount_20 rfl (lv_at hl 2 rfl) ?_
        refine lv_iload_n hx hb dX4_finisherCount_21 rfl (lv_at hl 1 rfl) ?_
        refine lv_iconst (v := nI 0) hx hb dX4_finisherCount_22 (by decide) ?_
        refine pm_callI (n := 2) [.int (nI (pc_cnt (pc_fin0 (g 1) K N) i1))] hx hb hml hown hts hA hK (m_fits l D h cI (va_up f 0 (nI 0)) g K N i1 0 (by first | assumption | omega | rfl) (by first | assumption | omega | rfl) (by first | assumption | omega | rfl) (by first | assumption | omega | rfl) (by first | assumption | omega | rfl) (by first | assumption | omega | rfl)) (lw_V q2470 q2472 qs54 q122 q2473) ⟨rfl, rfl⟩ (by decide +kernel) ⟨Nat.le_of_ble_eq_true rfl, Nat.le_of_ble_eq_true rfl⟩ hP hD hS rfl hl.1 rfl (Nat.le_of_ble_eq_true rfl) ⟨Nat.zero_le _, Nat.zero_le _⟩ dX4_finisherCount_23 (fun H locs hP hD hS => ?_)
        refine pp_callS (n := 1) (rest := [.int (nI (pc_cnt (pc_fin0 (g 1) K N) i1))]) hx hb hml hown hts (m_truth l (pc_fits (g 1) K N i1 0)) (lw_S q2630 q2631 q122 q2632) ⟨rfl, rfl⟩ (by decide +kernel) ⟨Nat.le_of_ble_eq_true rfl, Nat.le_of_ble_eq_true rfl⟩ rfl hl.1 rfl (Nat.le_of_ble_eq_true rfl) dX4_finisherCount_26 ⟨Nat.zero_le _, Nat.zero_le _⟩ ?_
        refine lv_iadd hx hb dX4_finisherCount_29 ?_
        refine lv_istore_n (lv' := [(1, .int ((nI (pc_cnt (pc_fin0 (g 1) K N) i1)) + (pc_b (pc_fits (g 1) K N i1 0)))), (2, .int (nI i1)), (0, .ref (h 0))]) hx hb dX4_finisherCount_30 rfl hl (by decide) rfl (fun ls hl => ?_)
        refine lv_iinc (v := nI (i1 + 1)) (lv' := [(2, .int (nI (i1 + 1))), (1, .int ((nI (pc_cnt (pc_fin0 (g 1) K N) i1)) + (pc_b (pc_fits (g 1) K N i1 0)))), (0, .ref (h 0))]) hx hb dX4_finisherCount_31 hl (k := 1) rfl (nI_1 _) (by decide) rfl (fun ls hl => ?_)
        refine lv_goto (tgt := 9) hx hb dX4_finisherCount_34 (by decide) ?_
        have eL : (nI (pc_cnt (pc_fin0 (g 1) K N) i1)) + (pc_b (pc_fits (g 1) K N i1 0)) = nI (pc_cnt (pc_fin0 (g 1) K N) (i1 + 1)) := (pc_cnt_step _ _)
        rw [eL] at hl
        exact ih9 (i1 + 1) (by first | assumption | omega) (by omega) _ _ hP hD hS _ (lv_sub hl [1, 0, 2] rfl)
  exact hloop9 (N - 0 + 1) 0 (by first | assumption | omega) (by omega) _ _ hP hD hS _ (lv_sub hl [1, 0, 2] rfl)

set_option maxHeartbeats 4000000 in
theorem m_meanNeed (l : Launch) (D : va_G) (h : Nat → Nat) (cI : ClassId) (f : Nat → Int32) (g : Nat → Nat → Int32) (B : Nat) (K : Nat) (N : Nat) (wl : List Nat) (hI : pc_inv B (g 1) K N wl) (hne : vf_n64 (FP.ddiv (FP.i2d (pc_needAll (g 1) K N)) (FP.i2d (nI N)))) : pm_C l yX4_meanNeed (ws_ yX4_meanNeed cX4_meanNeed 4 (some .double)) ({ frames := 2, cells := 0, slots := 0, locals := 44 } : Room) D h cI [.ref (h 0)] f g (some (.double (FP.ddiv (FP.i2d (pc_needAll (g 1) K N)) (FP.i2d (nI N))))) (va_up f 0 (nI 0)) g := by
  refine pm_enter (cc := cX4_meanNeed) (maxL := 4) (ret := (some .double)) (by decide) (Nat.le_of_ble_eq_true rfl) ?_
  intro p e s m below meth c A Qc ls hx hb hml hown hts hlk hA hK hP hD hS hr hq hl
  have hl : lv_has ls 4 [(0, .ref (h 0))] := hl
  have hN := hI.N0
  have hK0 := hI.K0
  have hN8 := hI.N8
  have hK4 := hI.K4
  have hN1 := hI.N1
  have hK1 := hI.K1
  have hwt := hI.waiting
  have hln := hI.len
  refine lv_aload_n hx hb dX4_meanNeed_0 rfl (lv_at hl 0 rfl) ?_
  refine lv_iconst (v := nI 0) hx hb dX4_meanNeed_1 (by decide) ?_
  refine pm_put0 (f := f) (f2 := (va_up f 0 (nI 0))) hx hb hts hown hK hP hD hS (hts _ q2482) rfl dX4_meanNeed_2 (fun H locs hP hD hS => ?_)
  refine lv_iconst (v := nI 0) hx hb dX4_meanNeed_5 (by decide) ?_
  refine lv_istore_n (lv' := [(1, .int (nI 0)), (0, .ref (h 0))]) hx hb dX4_meanNeed_6 rfl hl (by decide) rfl (fun ls hl => ?_)
  refine lv_iconst (v := nI 0) hx hb dX4_meanNeed_7 (by decide) ?_
  refine lv_istore_n (lv' := [(2, .int (nI 0)), (1, .int (nI 0)), (0, .ref (h 0))]) hx hb dX4_meanNeed_8 rfl hl (by decide) rfl (fun ls hl => ?_)
  have hloop9 : ∀ (n9 : Nat) (i1 : Nat), i1 ≤ N → N - i1 < n9 → ∀ (H : Heap) (locs : List Loc), va_P D pc_Cl (pm_W h cI (va_up f 0 (nI 0)) g) H → va_D A (pm_W h cI (va_up f 0 (nI 0)) g) → va_S A s.heap H locs → ∀ ls : Array Slot, lv_has ls 4 [(1, .int (pc_nsum (g 1) K i1)), (2, .int (nI i1)), (0, .ref (h 0))] → W p l e ({ frames := 2, cells := 0, slots := 0, locals := 44 } : Room) s m ([.ref (h 0)] : List Value).toArray below meth c H locs 0 0 (MQ below Qc ([.ref (h 0)] : List Value).toArray s 0 0 A) (F0 m 9 ls []) := by
    intro n9
    induction n9 with
    | zero => intro i1 hi1 hm; exact absurd hm (by omega)
    | succ n9 ih9 =>
      intro i1 hi1 hm9 H locs hP hD hS ls hl
      refine lv_iload_n hx hb dX4_meanNeed_9 rfl (lv_at hl 1 rfl) ?_
      refine lv_aload_n hx hb dX4_meanNeed_10 rfl (lv_at hl 2 rfl) ?_
      refine va_get (D := D) (ci := 0) (v := .ref (h 1)) (C := RX4) (T := TX4) (N := 22) hx hb hts in_X4 hown hK hP 0 rfl rfl 1 (by decide) (hts _ q2483) (fun _ h9 => h9) rfl dX4_meanNeed_11 ?_
      refine lv_iconst (v := nI 1) hx hb dX4_meanNeed_14 (by decide) ?_
      refine pn_iald (e9 := 1) (f := g 1) hx hb hK hP 1 0 rfl rfl (by omega) (by decide) dX4_meanNeed_15 ?_
      refine pn_top hN ?_
      refine pn_icmp_ge (tgt := 52) hx hb (by omega) (by omega) dX4_meanNeed_16 (by decide) (fun c1 => ?_) (fun c1 => ?_)
      · have eN : i1 = N := by omega
        rw [eN] at hl
        refine lv_iload_n hx hb dX4_meanNeed_52 rfl (lv_at hl 0 rfl) ?_
        refine lv_i2d hx hb dX4_meanNeed_53 ?_
        refine lv_aload_n hx hb dX4_meanNeed_54 rfl (lv_at hl 2 rfl) ?_
        refine va_get (D := D) (ci := 0) (v := .ref (h 1)) (C := RX4) (T := TX4) (N := 22) hx hb hts in_X4 hown hK hP 0 rfl rfl 1 (by decide) (hts _ q2483) (fun _ h9 => h9) rfl dX4_meanNeed_55 ?_
        refine lv_iconst (v := nI 1) hx hb dX4_meanNeed_58 (by decide) ?_
        refine pn_iald (e9 := 1) (f := g 1) hx hb hK hP 1 0 rfl rfl (by omega) (by decide) dX4_meanNeed_59 ?_
        refine pn_top hN ?_
        refine lv_i2d hx hb dX4_meanNeed_60 ?_
        refine lv_ddiv hx hb dX4_meanNeed_61 hne ?_
        exact pm_retD hx hb hlk hr hq hP hD hS dX4_meanNeed_62 (by rfl) rfl
      · refine lv_iconst (v := nI 0) hx hb dX4_meanNeed_19 (by decide) ?_
        refine lv_istore_n (lv' := [(3, .int (nI 0)), (1, .int (pc_nsum (g 1) K i1)), (2, .int (nI i1)), (0, .ref (h 0))]) hx hb dX4_meanNeed_20 rfl hl (by decide) rfl (fun ls hl => ?_)
        have hloop21 : ∀ (n21 : Nat) (i2 : Nat), i2 ≤ K → K - i2 < n21 → ∀ (H : Heap) (locs : List Loc), va_P D pc_Cl (pm_W h cI (va_up f 0 (nI 0)) g) H → va_D A (pm_W h cI (va_up f 0 (nI 0)) g) → va_S A s.heap H locs → ∀ ls : Array Slot, lv_has ls 4 [(1, .int (pc_acc (pc_nsum (g 1) K i1) (fun z9 => pc_need (g 1) i1 z9) i2)), (3, .int (nI i2)), (2, .int (nI i1)), (0, .ref (h 0))] → W p l e ({ frames := 2, cells := 0, slots := 0, locals := 44 } : Room) s m ([.ref (h 0)] : List Value).toArray below meth c H locs 0 0 (MQ below Qc ([.ref (h 0)] : List Value).toArray s 0 0 A) (F0 m 21 ls []) := by
          intro n21
          induction n21 with
          | zero => intro i2 hi2 hm; exact absurd hm (by omega)
          | succ n21 ih21 =>
            intro i2 hi2 hm21 H locs hP hD hS ls hl
            refine lv_iload_n hx hb dX4_meanNeed_21 rfl (lv_at hl 1 rfl) ?_
            refine lv_aload_n hx hb dX4_meanNeed_22 rfl (lv_at hl 3 rfl) ?_
            refine va_get (D := D) (ci := 0) (v := .ref (h 1)) (C := RX4) (T := TX4) (N := 22) hx hb hts in_X4 hown hK hP 0 rfl rfl 1 (by decide) (hts _ q2483) (fun _ h9 => h9) rfl dX4_meanNeed_23 ?_
            refine lv_iconst (v := nI 0) hx hb dX4_meanNeed_26 (by decide) ?_
            refine pn_iald (e9 := 0) (f := g 1) hx hb hK hP 1 0 rfl rfl (by omega) (by decide) dX4_meanNeed_27 ?_
            refine pn_top hK0 ?_
            refine pn_icmp_ge (tgt := 46) hx hb (by omega) (by omega) dX4_meanNeed_28 (by decide) (fun c2 => ?_) (fun c2 => ?_)
            · have eK : i2 = K := by omega
              rw [eK] at hl
              have hl : lv_has ls 4 [(1, .int (pc_nsum (g 1) K (i1 + 1))), (3, .int (nI K)), (2, .int (nI i1)), (0, .ref (h 0))] := hl
              refine lv_iinc (v := nI (i1 + 1)) (lv' := [(2, .int (nI (i1 + 1))), (1, .int (pc_nsum (g 1) K (i1 + 1))), (3, .int (nI K)), (0, .ref (h 0))]) hx hb dX4_meanNeed_46 hl (k := 2) rfl (nI_1 _) (by decide) rfl (fun ls hl => ?_)
              refine lv_goto (tgt := 9) hx hb dX4_meanNeed_49 (by decide) ?_
              exact ih9 (i1 + 1) (by first | assumption | omega) (by omega) _ _ hP hD hS _ (lv_sub hl [1, 0, 3] rfl)
            · refine lv_iload_n hx hb dX4_meanNeed_31 rfl (lv_at hl 0 rfl) ?_
              refine lv_aload_n hx hb dX4_meanNeed_32 rfl (lv_at hl 3 rfl) ?_
              refine lv_iload_n hx hb dX4_meanNeed_33 rfl (lv_at hl 2 rfl) ?_
              refine lv_iload_n hx hb dX4_meanNeed_34 rfl (lv_at hl 1 rfl) ?_
              refine pm_callI (n := 2) [.int (pc_acc (pc_nsum (g 1) K i1) (fun z9 => pc_need (g 1) i1 z9) i2)] hx hb hml hown hts hA hK (m_needOf l D h cI (va_up f 0 (nI 0)) g i1 i2 (by first | assumption | omega | rfl) (by first | assumption | omega | rfl)) (lw_V q2474 q2476 qs55 q122 q2477) ⟨rfl, rfl⟩ (by decide +kernel) ⟨Nat.le_of_ble_eq_true rfl, Nat.le_of_ble_eq_true rfl⟩ hP hD hS rfl hl.1 rfl (Nat.le_of_ble_eq_true rfl) ⟨Nat.zero_le _, Nat.zero_le _⟩ dX4_meanNeed_35 (fun H locs hP hD hS => ?_)
              refine lv_iadd hx hb dX4_meanNeed_38 ?_
              refine lv_istore_n (lv' := [(1, .int ((pc_acc (pc_nsum (g 1) K i1) (fun z9 => pc_need (g 1) i1 z9) i2) + (pc_need (g 1) i1 i2))), (3, .int (nI i2)), (2, .int (nI i1)), (0, .ref (h 0))]) hx hb dX4_meanNeed_39 rfl hl (by decide) rfl (fun ls hl => ?_)
              refine lv_iinc (v := nI (i2 + 1)) (lv' := [(3, .int (nI (i2 + 1))), (1, .int ((pc_acc (pc_nsum (g 1) K i1) (fun z9 => pc_need (g 1) i1 z9) i2) + (pc_need (g 1) i1 i2))), (2, .int (nI i1)), (0, .ref (h 0))]) hx hb dX4_meanNeed_40 hl (k := 1) rfl (nI_1 _) (by decide) rfl (fun ls hl => ?_)
              refine lv_goto (tgt := 21) hx hb dX4_meanNeed_43 (by decide) ?_
              exact ih21 (i2 + 1) (by first | assumption | omega) (by omega) _ _ hP hD hS _ (lv_sub hl [1, 0, 2, 3] rfl)
        exact hloop21 (K - 0 + 1) 0 (by first | assumption | omega) (by omega) _ _ hP hD hS _ (lv_sub hl [1, 0, 2, 3] rfl)
  exact hloop9 (N - 0 + 1) 0 (by first | assumption | omega) (by omega) _ _ hP hD hS _ (lv_sub hl [1, 0, 2] rfl)

set_option maxHeartbeats 4000000 in
theorem m_waitingCount (l : Launch) (D : va_G) (h : Nat → Nat) (cI : ClassId) (f : Nat → Int32) (g : Nat → Nat → Int32) (B : Nat) (K : Nat) (N : Nat) (wl : List Nat) (hI : pc_inv B (g 1) K N wl) : pm_C l yX4_waitingCount (ws_ yX4_waitingCount cX4_waitingCount 1 (some .int)) ({ frames := 3, cells := 0, slots := 0, locals := 65 } : Room) D h cI [.ref (h 0)] f g (some (.int (nI wl.length))) (va_up f 0 (nI 0)) g := by
  refine pm_enter (cc := cX4_waitingCount) (maxL := 1) (ret := (some .int)) (by decide) (Nat.le_of_ble_eq_true rfl) ?_
  intro p e s m below meth c A Qc ls hx hb hml hown hts hlk hA hK hP hD hS hr hq hl
  have hl : lv_has ls 1 [(0, .ref (h 0))] := hl
  have hN := hI.N0
  have hK0 := hI.K0
  have hN8 := hI.N8
  have hK4 := hI.K4
  have hN1 := hI.N1
  have hK1 := hI.K1
  have hwt := hI.waiting
  have hln := hI.len
  refine lv_aload_n hx hb dX4_waitingCount_0 rfl (lv_at hl 0 rfl) ?_
  refine lv_iconst (v := nI 0) hx hb dX4_waitingCount_1 (by decide) ?_
  refine pm_put0 (f := f) (f2 := (va_up f 0 (nI 0))) hx hb hts hown hK hP hD hS (hts _ q2482) rfl dX4_waitingCount_2 (fun H locs hP hD hS => ?_)
  refine lv_aload_n hx hb dX4_waitingCount_5 rfl (lv_at hl 0 rfl) ?_
  refine pm_callI (n := 0) [] hx hb hml hown hts hA hK (m_waiting l D h cI (va_up f 0 (nI 0)) g N (by first | assumption | omega | rfl) (by first | assumption | omega | rfl)) (lw_V q2649 q2651 qs63 q122 q2652) ⟨rfl, rfl⟩ (by decide +kernel) ⟨Nat.le_of_ble_eq_true rfl, Nat.le_of_ble_eq_true rfl⟩ hP hD hS rfl hl.1 rfl (Nat.le_of_ble_eq_true rfl) ⟨Nat.zero_le _, Nat.zero_le _⟩ dX4_waitingCount_6 (fun H locs hP hD hS => ?_)
  exact pm_retI hx hb hlk hr hq hP hD hS dX4_waitingCount_9 (by rw [hwt]) rfl

set_option maxHeartbeats 4000000 in
theorem m_waitingOffice (l : Launch) (D : va_G) (h : Nat → Nat) (cI : ClassId) (f : Nat → Int32) (g : Nat → Nat → Int32) (B : Nat) (K : Nat) (N : Nat) (wl : List Nat) (x8 : Int32) (hI : pc_inv B (g 1) K N wl) : pm_C l yX4_waitingOffice (ws_ yX4_waitingOffice cX4_waitingOffice 2 (some .int)) ({ frames := 4, cells := 0, slots := 0, locals := 88 } : Room) D h cI [.ref (h 0), .int (x8)] f g (some (.int (pc_nx (pc_wat (g 1) N x8) N))) (va_up f 0 (nI 0)) g := by
  refine pm_enter (cc := cX4_waitingOffice) (maxL := 2) (ret := (some .int)) (by decide) (Nat.le_of_ble_eq_true rfl) ?_
  intro p e s m below meth c A Qc ls hx hb hml hown hts hlk hA hK hP hD hS hr hq hl
  have hl : lv_has ls 2 [(0, .ref (h 0)), (1, .int (x8))] := hl
  have hN := hI.N0
  have hK0 := hI.K0
  have hN8 := hI.N8
  have hK4 := hI.K4
  have hN1 := hI.N1
  have hK1 := hI.K1
  have hwt := hI.waiting
  have hln := hI.len
  refine lv_aload_n hx hb dX4_waitingOffice_0 rfl (lv_at hl 0 rfl) ?_
  refine lv_iconst (v := nI 0) hx hb dX4_waitingOffice_1 (by decide) ?_
  refine pm_put0 (f := f) (f2 := (va_up f 0 (nI 0))) hx hb hts hown hK hP hD hS (hts _ q2482) rfl dX4_waitingOffice_2 (fun H locs hP hD hS => ?_)
  refine lv_aload_n hx hb dX4_waitingOffice_5 rfl (lv_at hl 0 rfl) ?_
  refine lv_iload_n hx hb dX4_waitingOffice_6 rfl (lv_at hl 1 rfl) ?_
  refine pm_callI (n := 1) [] hx hb hml hown hts hA hK (m_waitingAt l D h cI (va_up f 0 (nI 0)) g N x8 (by first | assumption | omega | rfl) (by first | assumption | omega | rfl)) (lw_V q2661 q2663 qs65 q122 q2664) ⟨rfl, rfl⟩ (by decide +kernel) ⟨Nat.le_of_ble_eq_true rfl, Nat.le_of_ble_eq_true rfl⟩ hP hD hS rfl hl.1 rfl (Nat.le_of_ble_eq_true rfl) ⟨Nat.zero_le _, Nat.zero_le _⟩ dX4_waitingOffice_7 (fun H locs hP hD hS => ?_)
  exact pm_retI hx hb hlk hr hq hP hD hS dX4_waitingOffice_10 rfl rfl

set_option maxHeartbeats 4000000 in
theorem m_waitsForKind_ok (l : Launch) (D : va_G) (h : Nat → Nat) (cI : ClassId) (f : Nat → Int32) (g : Nat → Nat → Int32) (B : Nat) (K : Nat) (N : Nat) (wl : List Nat) (o : Nat) (hI : pc_inv B (g 1) K N wl) (ho : o < N) : pm_C l yX4_waitsForKind (ws_ yX4_waitsForKind cX4_waitsForKind 2 (some .int)) ({ frames := 2, cells := 0, slots := 0, locals := 43 } : Room) D h cI [.ref (h 0), .int (nI o)] f g (some (.int ((pc_of (g 1) o 8) - (nI 1)))) (va_up f 0 (nI 0)) g := by
  refine pm_enter (cc := cX4_waitsForKind) (maxL := 2) (ret := (some .int)) (by decide) (Nat.le_of_ble_eq_true rfl) ?_
  intro p e s m below meth c A Qc ls hx hb hml hown hts hlk hA hK hP hD hS hr hq hl
  have hl : lv_has ls 2 [(0, .ref (h 0)), (1, .int (nI o))] := hl
  have hN := hI.N0
  have hK0 := hI.K0
  have hN8 := hI.N8
  have hK4 := hI.K4
  have hN1 := hI.N1
  have hK1 := hI.K1
  have hwt := hI.waiting
  have hln := hI.len
  refine lv_aload_n hx hb dX4_waitsForKind_0 rfl (lv_at hl 0 rfl) ?_
  refine lv_iconst (v := nI 0) hx hb dX4_waitsForKind_1 (by decide) ?_
  refine pm_put0 (f := f) (f2 := (va_up f 0 (nI 0))) hx hb hts hown hK hP hD hS (hts _ q2482) rfl dX4_waitsForKind_2 (fun H locs hP hD hS => ?_)
  refine lv_aload_n hx hb dX4_waitsForKind_5 rfl (lv_at hl 0 rfl) ?_
  refine lv_iload_n hx hb dX4_waitsForKind_6 rfl (lv_at hl 1 rfl) ?_
  refine pm_callI (n := 1) [] hx hb hml hown hts hA hK (m_noOffice_ok l D h cI (va_up f 0 (nI 0)) g N o (by first | assumption | omega | rfl) (by first | assumption | omega | rfl) (by first | assumption | omega | rfl) (by first | assumption | omega | rfl)) (lw_V q2610 q2612 qs61 q122 q2613) ⟨rfl, rfl⟩ (by decide +kernel) ⟨Nat.le_of_ble_eq_true rfl, Nat.le_of_ble_eq_true rfl⟩ hP hD hS rfl hl.1 rfl (Nat.le_of_ble_eq_true rfl) ⟨Nat.zero_le _, Nat.zero_le _⟩ dX4_waitsForKind_7 (fun H locs hP hD hS => ?_)
  refine pb_if_eq (tgt := 17) hx hb dX4_waitsForKind_10 (by decide) (fun c1 => ?_) (fun c1 => ?_)
  · refine lv_aload_n hx hb dX4_waitsForKind_17 rfl (lv_at hl 0 rfl) ?_
    refine lv_iload_n hx hb dX4_waitsForKind_18 rfl (lv_at hl 1 rfl) ?_
    refine lv_bipush (v := nI 8) hx hb dX4_waitsForKind_19 (by decide) ?_
    refine pm_callI (n := 2) [] hx hb hml hown hts hA hK (m_of l D h cI (va_up f 0 (nI 0)) g o 8 (by first | assumption | omega | rfl) (by first | assumption | omega | rfl)) (lw_V q2443 q2445 qs48 q122 q2446) ⟨rfl, rfl⟩ (by decide +kernel) ⟨Nat.le_of_ble_eq_true rfl, Nat.le_of_ble_eq_true rfl⟩ hP hD hS rfl hl.1 rfl (Nat.le_of_ble_eq_true rfl) ⟨Nat.zero_le _, Nat.zero_le _⟩ dX4_waitsForKind_21 (fun H locs hP hD hS => ?_)
    refine lv_iconst (v := nI 1) hx hb dX4_waitsForKind_24 (by decide) ?_
    refine lv_isub hx hb dX4_waitsForKind_25 ?_
    exact pm_retI hx hb hlk hr hq hP hD hS dX4_waitsForKind_26 rfl rfl
  · exfalso; cases c1

set_option maxHeartbeats 4000000 in
theorem m_waitsForKind_no (l : Launch) (D : va_G) (h : Nat → Nat) (cI : ClassId) (f : Nat → Int32) (g : Nat → Nat → Int32) (B : Nat) (K : Nat) (N : Nat) (wl : List Nat) (x8 : Int32) (hI : pc_inv B (g 1) K N wl) (hx8 : pc_inr x8 (nI 0) (nI (N - 1)) = false) : pm_C l yX4_waitsForKind (ws_ yX4_waitsForKind cX4_waitsForKind 2 (some .int)) ({ frames := 2, cells := 0, slots := 0, locals := 43 } : Room) D h cI [.ref (h 0), .int (x8)] f g (some (.int (nI 0))) (va_up f 0 (nI 1)) g := by
  refine pm_enter (cc := cX4_waitsForKind) (maxL := 2) (ret := (some .int)) (by decide) (Nat.le_of_ble_eq_true rfl) ?_
  intro p e s m below meth c A Qc ls hx hb hml hown hts hlk hA hK hP hD hS hr hq hl
  have hl : lv_has ls 2 [(0, .ref (h 0)), (1, .int (x8))] := hl
  have hN := hI.N0
  have hK0 := hI.K0
  have hN8 := hI.N8
  have hK4 := hI.K4
  have hN1 := hI.N1
  have hK1 := hI.K1
  have hwt := hI.waiting
  have hln := hI.len
  refine lv_aload_n hx hb dX4_waitsForKind_0 rfl (lv_at hl 0 rfl) ?_
  refine lv_iconst (v := nI 0) hx hb dX4_waitsForKind_1 (by decide) ?_
  refine pm_put0 (f := f) (f2 := (va_up f 0 (nI 0))) hx hb hts hown hK hP hD hS (hts _ q2482) rfl dX4_waitsForKind_2 (fun H locs hP hD hS => ?_)
  refine lv_aload_n hx hb dX4_waitsForKind_5 rfl (lv_at hl 0 rfl) ?_
  refine lv_iload_n hx hb dX4_waitsForKind_6 rfl (lv_at hl 1 rfl) ?_
  refine pm_callI (n := 1) [] hx hb hml hown hts hA hK (m_noOffice_no l D h cI (va_up f 0 (nI 0)) g N x8 (by first | assumption | omega | rfl) (by first | assumption | omega | rfl) (by first | assumption | omega | rfl) (by first | assumption | omega | rfl) (by first | assumption | omega | rfl)) (lw_V q2610 q2612 qs61 q122 q2613) ⟨rfl, rfl⟩ (by decide +kernel) ⟨Nat.le_of_ble_eq_true rfl, Nat.le_of_ble_eq_true rfl⟩ hP hD hS rfl hl.1 rfl (Nat.le_of_ble_eq_true rfl) ⟨Nat.zero_le _, Nat.zero_le _⟩ dX4_waitsForKind_7 (fun H locs hP hD hS => ?_)
  have hP : va_P D pc_Cl (pm_W h cI (va_up f 0 (nI 1)) g) H := hP
  have hD : va_D A (pm_W h cI (va_up f 0 (nI 1)) g) := hD
  refine pb_if_eq (tgt := 17) hx hb dX4_waitsForKind_10 (by decide) (fun c1 => ?_) (fun c1 => ?_)
  · exfalso; cases c1
  · refine lv_iconst (v := nI 0) hx hb dX4_waitsForKind_13 (by decide) ?_
    refine lv_goto (tgt := 26) hx hb dX4_waitsForKind_14 (by decide) ?_
    exact pm_retI hx hb hlk hr hq hP hD hS dX4_waitsForKind_26 rfl rfl

set_option maxHeartbeats 4000000 in
theorem m_waitsForCount_ok (l : Launch) (D : va_G) (h : Nat → Nat) (cI : ClassId) (f : Nat → Int32) (g : Nat → Nat → Int32) (B : Nat) (K : Nat) (N : Nat) (wl : List Nat) (o : Nat) (hI : pc_inv B (g 1) K N wl) (ho : o < N) : pm_C l yX4_waitsForCount (ws_ yX4_waitsForCount cX4_waitsForCount 2 (some .int)) ({ frames := 2, cells := 0, slots := 0, locals := 43 } : Room) D h cI [.ref (h 0), .int (nI o)] f g (some (.int (pc_of (g 1) o 9))) (va_up f 0 (nI 0)) g := by
  refine pm_enter (cc := cX4_waitsForCount) (maxL := 2) (ret := (some .int)) (by decide) (Nat.le_of_ble_eq_true rfl) ?_
  intro p e s m below meth c A Qc ls hx hb hml hown hts hlk hA hK hP hD hS hr hq hl
  have hl : lv_has ls 2 [(0, .ref (h 0)), (1, .int (nI o))] := hl
  have hN := hI.N0
  have hK0 := hI.K0
  have hN8 := hI.N8
  have hK4 := hI.K4
  have hN1 := hI.N1
  have hK1 := hI.K1
  have hwt := hI.waiting
  have hln := hI.len
  refine lv_aload_n hx hb dX4_waitsForCount_0 rfl (lv_at hl 0 rfl) ?_
  refine lv_iconst (v := nI 0) hx hb dX4_waitsForCount_1 (by decide) ?_
  refine pm_put0 (f := f) (f2 := (va_up f 0 (nI 0))) hx hb hts hown hK hP hD hS (hts _ q2482) rfl dX4_waitsForCount_2 (fun H locs hP hD hS => ?_)
  refine lv_aload_n hx hb dX4_waitsForCount_5 rfl (lv_at hl 0 rfl) ?_
  refine lv_iload_n hx hb dX4_waitsForCount_6 rfl (lv_at hl 1 rfl) ?_
  refine pm_callI (n := 1) [] hx hb hml hown hts hA hK (m_noOffice_ok l D h cI (va_up f 0 (nI 0)) g N o (by first | assumption | omega | rfl) (by first | assumption | omega | rfl) (by first | assumption | omega | rfl) (by first | assumption | omega | rfl)) (lw_V q2610 q2612 qs61 q122 q2613) ⟨rfl, rfl⟩ (by decide +kernel) ⟨Nat.le_of_ble_eq_true rfl, Nat.le_of_ble_eq_true rfl⟩ hP hD hS rfl hl.1 rfl (Nat.le_of_ble_eq_true rfl) ⟨Nat.zero_le _, Nat.zero_le _⟩ dX4_waitsForCount_7 (fun H locs hP hD hS => ?_)
  refine pb_if_eq (tgt := 17) hx hb dX4_waitsForCount_10 (by decide) (fun c1 => ?_) (fun c1 => ?_)
  · refine lv_aload_n hx hb dX4_waitsForCount_17 rfl (lv_at hl 0 rfl) ?_
    refine lv_iload_n hx hb dX4_waitsForCount_18 rfl (lv_at hl 1 rfl) ?_
    refine lv_bipush (v := nI 9) hx hb dX4_waitsForCount_19 (by decide) ?_
    refine pm_callI (n := 2) [] hx hb hml hown hts hA hK (m_of l D h cI (va_up f 0 (nI 0)) g o 9 (by first | assumption | omega | rfl) (by first | assumption | omega | rfl)) (lw_V q2443 q2445 qs48 q122 q2446) ⟨rfl, rfl⟩ (by decide +kernel) ⟨Nat.le_of_ble_eq_true rfl, Nat.le_of_ble_eq_true rfl⟩ hP hD hS rfl hl.1 rfl (Nat.le_of_ble_eq_true rfl) ⟨Nat.zero_le _, Nat.zero_le _⟩ dX4_waitsForCount_21 (fun H locs hP hD hS => ?_)
    exact pm_retI hx hb hlk hr hq hP hD hS dX4_waitsForCount_24 rfl rfl
  · exfalso; cases c1

set_option maxHeartbeats 4000000 in
theorem m_waitsForCount_no (l : Launch) (D : va_G) (h : Nat → Nat) (cI : ClassId) (f : Nat → Int32) (g : Nat → Nat → Int32) (B : Nat) (K : Nat) (N : Nat) (wl : List Nat) (x8 : Int32) (hI : pc_inv B (g 1) K N wl) (hx8 : pc_inr x8 (nI 0) (nI (N - 1)) = false) : pm_C l yX4_waitsForCount (ws_ yX4_waitsForCount cX4_waitsForCount 2 (some .int)) ({ frames := 2, cells := 0, slots := 0, locals := 43 } : Room) D h cI [.ref (h 0), .int (x8)] f g (some (.int (nI 0))) (va_up f 0 (nI 1)) g := by
  refine pm_enter (cc := cX4_waitsForCount) (maxL := 2) (ret := (some .int)) (by decide) (Nat.le_of_ble_eq_true rfl) ?_
  intro p e s m below meth c A Qc ls hx hb hml hown hts hlk hA hK hP hD hS hr hq hl
  have hl : lv_has ls 2 [(0, .ref (h 0)), (1, .int (x8))] := hl
  have hN := hI.N0
  have hK0 := hI.K0
  have hN8 := hI.N8
  have hK4 := hI.K4
  have hN1 := hI.N1
  have hK1 := hI.K1
  have hwt := hI.waiting
  have hln := hI.len
  refine lv_aload_n hx hb dX4_waitsForCount_0 rfl (lv_at hl 0 rfl) ?_
  refine lv_iconst (v := nI 0) hx hb dX4_waitsForCount_1 (by decide) ?_
  refine pm_put0 (f := f) (f2 := (va_up f 0 (nI 0))) hx hb hts hown hK hP hD hS (hts _ q2482) rfl dX4_waitsForCount_2 (fun H locs hP hD hS => ?_)
  refine lv_aload_n hx hb dX4_waitsForCount_5 rfl (lv_at hl 0 rfl) ?_
  refine lv_iload_n hx hb dX4_waitsForCount_6 rfl (lv_at hl 1 rfl) ?_
  refine pm_callI (n := 1) [] hx hb hml hown hts hA hK (m_noOffice_no l D h cI (va_up f 0 (nI 0)) g N x8 (by first | assumption | omega | rfl) (by first | assumption | omega | rfl) (by first | assumption | omega | rfl) (by first | assumption | omega | rfl) (by first | assumption | omega | rfl)) (lw_V q2610 q2612 qs61 q122 q2613) ⟨rfl, rfl⟩ (by decide +kernel) ⟨Nat.le_of_ble_eq_true rfl, Nat.le_of_ble_eq_true rfl⟩ hP hD hS rfl hl.1 rfl (Nat.le_of_ble_eq_true rfl) ⟨Nat.zero_le _, Nat.zero_le _⟩ dX4_waitsForCount_7 (fun H locs hP hD hS => ?_)
  have hP : va_P D pc_Cl (pm_W h cI (va_up f 0 (nI 1)) g) H := hP
  have hD : va_D A (pm_W h cI (va_up f 0 (nI 1)) g) := hD
  refine pb_if_eq (tgt := 17) hx hb dX4_waitsForCount_10 (by decide) (fun c1 => ?_) (fun c1 => ?_)
  · exfalso; cases c1
  · refine lv_iconst (v := nI 0) hx hb dX4_waitsForCount_13 (by decide) ?_
    refine lv_goto (tgt := 24) hx hb dX4_waitsForCount_14 (by decide) ?_
    exact pm_retI hx hb hlk hr hq hP hD hS dX4_waitsForCount_24 rfl rfl

set_option maxHeartbeats 4000000 in
theorem m_waitedPrinters_ok (l : Launch) (D : va_G) (h : Nat → Nat) (cI : ClassId) (f : Nat → Int32) (g : Nat → Nat → Int32) (B : Nat) (K : Nat) (N : Nat) (wl : List Nat) (k : Nat) (hI : pc_inv B (g 1) K N wl) (hk : k < K) : pm_C l yX4_waitedPrinters (ws_ yX4_waitedPrinters cX4_waitedPrinters 4 (some .int)) ({ frames := 2, cells := 0, slots := 0, locals := 43 } : Room) D h cI [.ref (h 0), .int (nI k)] f g (some (.int (pc_waited (g 1) N k))) (va_up f 0 (nI 0)) g := by
  refine pm_enter (cc := cX4_waitedPrinters) (maxL := 4) (ret := (some .int)) (by decide) (Nat.le_of_ble_eq_true rfl) ?_
  intro p e s m below meth c A Qc ls hx hb hml hown hts hlk hA hK hP hD hS hr hq hl
  have hl : lv_has ls 4 [(0, .ref (h 0)), (1, .int (nI k))] := hl
  have hN := hI.N0
  have hK0 := hI.K0
  have hN8 := hI.N8
  have hK4 := hI.K4
  have hN1 := hI.N1
  have hK1 := hI.K1
  have hwt := hI.waiting
  have hln := hI.len
  refine lv_aload_n hx hb dX4_waitedPrinters_0 rfl (lv_at hl 0 rfl) ?_
  refine lv_iconst (v := nI 0) hx hb dX4_waitedPrinters_1 (by decide) ?_
  refine pm_put0 (f := f) (f2 := (va_up f 0 (nI 0))) hx hb hts hown hK hP hD hS (hts _ q2482) rfl dX4_waitedPrinters_2 (fun H locs hP hD hS => ?_)
  refine lv_aload_n hx hb dX4_waitedPrinters_5 rfl (lv_at hl 0 rfl) ?_
  refine lv_iload_n hx hb dX4_waitedPrinters_6 rfl (lv_at hl 1 rfl) ?_
  refine pm_callI (n := 1) [] hx hb hml hown hts hA hK (m_noKind_ok l D h cI (va_up f 0 (nI 0)) g K k (by first | assumption | omega | rfl) (by first | assumption | omega | rfl) (by first | assumption | omega | rfl) (by first | assumption | omega | rfl)) (lw_V q2574 q2576 qs58 q122 q2577) ⟨rfl, rfl⟩ (by decide +kernel) ⟨Nat.le_of_ble_eq_true rfl, Nat.le_of_ble_eq_true rfl⟩ hP hD hS rfl hl.1 rfl (Nat.le_of_ble_eq_true rfl) ⟨Nat.zero_le _, Nat.zero_le _⟩ dX4_waitedPrinters_7 (fun H locs hP hD hS => ?_)
  refine pb_if_eq (tgt := 15) hx hb dX4_waitedPrinters_10 (by decide) (fun c1 => ?_) (fun c1 => ?_)
  · refine lv_iconst (v := nI 0) hx hb dX4_waitedPrinters_15 (by decide) ?_
    refine lv_istore_n (lv' := [(2, .int (nI 0)), (0, .ref (h 0)), (1, .int (nI k))]) hx hb dX4_waitedPrinters_16 rfl hl (by decide) rfl (fun ls hl => ?_)
    refine lv_iconst (v := nI 0) hx hb dX4_waitedPrinters_17 (by decide) ?_
    refine lv_istore_n (lv' := [(3, .int (nI 0)), (2, .int (nI 0)), (0, .ref (h 0)), (1, .int (nI k))]) hx hb dX4_waitedPrinters_18 rfl hl (by decide) rfl (fun ls hl => ?_)
    have hloop19 : ∀ (n19 : Nat) (i1 : Nat), i1 ≤ N → N - i1 < n19 → ∀ (H : Heap) (locs : List Loc), va_P D pc_Cl (pm_W h cI (va_up f 0 (nI 0)) g) H → va_D A (pm_W h cI (va_up f 0 (nI 0)) g) → va_S A s.heap H locs → ∀ ls : Array Slot, lv_has ls 4 [(2, .int (pc_sum (pc_waitk (g 1) k) i1)), (3, .int (nI i1)), (0, .ref (h 0)), (1, .int (nI k))] → W p l e ({ frames := 2, cells := 0, slots := 0, locals := 43 } : Room) s m ([.ref (h 0), .int (nI k)] : List Value).toArray below meth c H locs 0 0 (MQ below Qc ([.ref (h 0), .int (nI k)] : List Value).toArray s 0 0 A) (F0 m 19 ls []) := by
      intro n19
      induction n19 with
      | zero => intro i1 hi1 hm; exact absurd hm (by omega)
      | succ n19 ih19 =>
        intro i1 hi1 hm19 H locs hP hD hS ls hl
        refine lv_iload_n hx hb dX4_waitedPrinters_19 rfl (lv_at hl 1 rfl) ?_
        refine lv_aload_n hx hb dX4_waitedPrinters_20 rfl (lv_at hl 2 rfl) ?_
        refine va_get (D := D) (ci := 0) (v := .ref (h 1)) (C := RX4) (T := TX4) (N := 22) hx hb hts in_X4 hown hK hP 0 rfl rfl 1 (by decide) (hts _ q2483) (fun _ h9 => h9) rfl dX4_waitedPrinters_21 ?_
        refine lv_iconst (v := nI 1) hx hb dX4_waitedPrinters_24 (by decide) ?_
        refine pn_iald (e9 := 1) (f := g 1) hx hb hK hP 1 0 rfl rfl (by omega) (by decide) dX4_waitedPrinters_25 ?_
        refine pn_top hN ?_
        refine pn_icmp_ge (tgt := 62) hx hb (by omega) (by omega) dX4_waitedPrinters_26 (by decide) (fun c2 => ?_) (fun c2 => ?_)
        · refine lv_iload_n hx hb dX4_waitedPrinters_62 rfl (lv_at hl 0 rfl) ?_
          exact pm_retI hx hb hlk hr hq hP hD hS dX4_waitedPrinters_63 (by rw [show i1 = N from by omega]; rfl) rfl
        · refine lv_iload_n hx hb dX4_waitedPrinters_29 rfl (lv_at hl 0 rfl) ?_
          refine lv_aload_n hx hb dX4_waitedPrinters_30 rfl (lv_at hl 2 rfl) ?_
          refine lv_iload_n hx hb dX4_waitedPrinters_31 rfl (lv_at hl 1 rfl) ?_
          refine lv_bipush (v := nI 8) hx hb dX4_waitedPrinters_32 (by decide) ?_
          refine pm_callI (n := 2) [.int (pc_sum (pc_waitk (g 1) k) i1)] hx hb hml hown hts hA hK (m_of l D h cI (va_up f 0 (nI 0)) g i1 8 (by first | assumption | omega | rfl) (by first | assumption | omega | rfl)) (lw_V q2443 q2445 qs48 q122 q2446) ⟨rfl, rfl⟩ (by decide +kernel) ⟨Nat.le_of_ble_eq_true rfl, Nat.le_of_ble_eq_true rfl⟩ hP hD hS rfl hl.1 rfl (Nat.le_of_ble_eq_true rfl) ⟨Nat.zero_le _, Nat.zero_le _⟩ dX4_waitedPrinters_34 (fun H locs hP hD hS => ?_)
          refine lv_iload_n hx hb dX4_waitedPrinters_37 rfl (lv_at hl 3 rfl) ?_
          refine lv_iconst (v := nI 1) hx hb dX4_waitedPrinters_38 (by decide) ?_
          refine pn_iadd hx hb dX4_waitedPrinters_39 ?_
          refine lv_icmp_ne (tgt := 53) hx hb dX4_waitedPrinters_40 (by decide) (fun c3 => ?_) (fun c3 => ?_)
          · refine lv_iconst (v := nI 0) hx hb dX4_waitedPrinters_53 (by decide) ?_
            refine lv_iadd hx hb dX4_waitedPrinters_54 ?_
            refine lv_istore_n (lv' := [(2, .int ((pc_sum (pc_waitk (g 1) k) i1) + (nI 0))), (3, .int (nI i1)), (0, .ref (h 0)), (1, .int (nI k))]) hx hb dX4_waitedPrinters_55 rfl hl (by decide) rfl (fun ls hl => ?_)
            refine lv_iinc (v := nI (i1 + 1)) (lv' := [(3, .int (nI (i1 + 1))), (2, .int ((pc_sum (pc_waitk (g 1) k) i1) + (nI 0))), (0, .ref (h 0)), (1, .int (nI k))]) hx hb dX4_waitedPrinters_56 hl (k := 1) rfl (nI_1 _) (by decide) rfl (fun ls hl => ?_)
            refine lv_goto (tgt := 19) hx hb dX4_waitedPrinters_59 (by decide) ?_
            have eL : (pc_sum (pc_waitk (g 1) k) i1) + (nI 0) = pc_sum (pc_waitk (g 1) k) (i1 + 1) := (by simp [pc_sum, pc_acc, pc_waitk, c3])
            rw [eL] at hl
            exact ih19 (i1 + 1) (by first | assumption | omega) (by omega) _ _ hP hD hS _ (lv_sub hl [1, 0, 2, 3] rfl)
          · refine lv_aload_n hx hb dX4_waitedPrinters_43 rfl (lv_at hl 2 rfl) ?_
            refine lv_iload_n hx hb dX4_waitedPrinters_44 rfl (lv_at hl 1 rfl) ?_
            refine lv_bipush (v := nI 9) hx hb dX4_waitedPrinters_45 (by decide) ?_
            refine pm_callI (n := 2) [.int (pc_sum (pc_waitk (g 1) k) i1)] hx hb hml hown hts hA hK (m_of l D h cI (va_up f 0 (nI 0)) g i1 9 (by first | assumption | omega | rfl) (by first | assumption | omega | rfl)) (lw_V q2443 q2445 qs48 q122 q2446) ⟨rfl, rfl⟩ (by decide +kernel) ⟨Nat.le_of_ble_eq_true rfl, Nat.le_of_ble_eq_true rfl⟩ hP hD hS rfl hl.1 rfl (Nat.le_of_ble_eq_true rfl) ⟨Nat.zero_le _, Nat.zero_le _⟩ dX4_waitedPrinters_47 (fun H locs hP hD hS => ?_)
            refine lv_goto (tgt := 54) hx hb dX4_waitedPrinters_50 (by decide) ?_
            refine lv_iadd hx hb dX4_waitedPrinters_54 ?_
            refine lv_istore_n (lv' := [(2, .int ((pc_sum (pc_waitk (g 1) k) i1) + (pc_of (g 1) i1 9))), (3, .int (nI i1)), (0, .ref (h 0)), (1, .int (nI k))]) hx hb dX4_waitedPrinters_55 rfl hl (by decide) rfl (fun ls hl => ?_)
            refine lv_iinc (v := nI (i1 + 1)) (lv' := [(3, .int (nI (i1 + 1))), (2, .int ((pc_sum (pc_waitk (g 1) k) i1) + (pc_of (g 1) i1 9))), (0, .ref (h 0)), (1, .int (nI k))]) hx hb dX4_waitedPrinters_56 hl (k := 1) rfl (nI_1 _) (by decide) rfl (fun ls hl => ?_)
            refine lv_goto (tgt := 19) hx hb dX4_waitedPrinters_59 (by decide) ?_
            have eL : (pc_sum (pc_waitk (g 1) k) i1) + (pc_of (g 1) i1 9) = pc_sum (pc_waitk (g 1) k) (i1 + 1) := (by simp [pc_sum, pc_acc, pc_waitk, c3])
            rw [eL] at hl
            exact ih19 (i1 + 1) (by first | assumption | omega) (by omega) _ _ hP hD hS _ (lv_sub hl [1, 0, 2, 3] rfl)
    exact hloop19 (N - 0 + 1) 0 (by first | assumption | omega) (by omega) _ _ hP hD hS _ (lv_sub hl [1, 0, 2, 3] rfl)
  · exfalso; cases c1

set_option maxHeartbeats 4000000 in
theorem m_waitedPrinters_no (l : Launch) (D : va_G) (h : Nat → Nat) (cI : ClassId) (f : Nat → Int32) (g : Nat → Nat → Int32) (B : Nat) (K : Nat) (N : Nat) (wl : List Nat) (x8 : Int32) (hI : pc_inv B (g 1) K N wl) (hx8 : pc_inr x8 (nI 0) (nI (K - 1)) = false) : pm_C l yX4_waitedPrinters (ws_ yX4_waitedPrinters cX4_waitedPrinters 4 (some .int)) ({ frames := 2, cells := 0, slots := 0, locals := 43 } : Room) D h cI [.ref (h 0), .int (x8)] f g (some (.int (nI 0))) (va_up f 0 (nI 1)) g := by
  refine pm_enter (cc := cX4_waitedPrinters) (maxL := 4) (ret := (some .int)) (by decide) (Nat.le_of_ble_eq_true rfl) ?_
  intro p e s m below meth c A Qc ls hx hb hml hown hts hlk hA hK hP hD hS hr hq hl
  have hl : lv_has ls 4 [(0, .ref (h 0)), (1, .int (x8))] := hl
  have hN := hI.N0
  have hK0 := hI.K0
  have hN8 := hI.N8
  have hK4 := hI.K4
  have hN1 := hI.N1
  have hK1 := hI.K1
  have hwt := hI.waiting
  have hln := hI.len
  refine lv_aload_n hx hb dX4_waitedPrinters_0 rfl (lv_at hl 0 rfl) ?_
  refine lv_iconst (v := nI 0) hx hb dX4_waitedPrinters_1 (by decide) ?_
  refine pm_put0 (f := f) (f2 := (va_up f 0 (nI 0))) hx hb hts hown hK hP hD hS (hts _ q2482) rfl dX4_waitedPrinters_2 (fun H locs hP hD hS => ?_)
  refine lv_aload_n hx hb dX4_waitedPrinters_5 rfl (lv_at hl 0 rfl) ?_
  refine lv_iload_n hx hb dX4_waitedPrinters_6 rfl (lv_at hl 1 rfl) ?_
  refine pm_callI (n := 1) [] hx hb hml hown hts hA hK (m_noKind_no l D h cI (va_up f 0 (nI 0)) g K x8 (by first | assumption | omega | rfl) (by first | assumption | omega | rfl) (by first | assumption | omega | rfl) (by first | assumption | omega | rfl) (by first | assumption | omega | rfl)) (lw_V q2574 q2576 qs58 q122 q2577) ⟨rfl, rfl⟩ (by decide +kernel) ⟨Nat.le_of_ble_eq_true rfl, Nat.le_of_ble_eq_true rfl⟩ hP hD hS rfl hl.1 rfl (Nat.le_of_ble_eq_true rfl) ⟨Nat.zero_le _, Nat.zero_le _⟩ dX4_waitedPrinters_7 (fun H locs hP hD hS => ?_)
  have hP : va_P D pc_Cl (pm_W h cI (va_up f 0 (nI 1)) g) H := hP
  have hD : va_D A (pm_W h cI (va_up f 0 (nI 1)) g) := hD
  refine pb_if_eq (tgt := 15) hx hb dX4_waitedPrinters_10 (by decide) (fun c1 => ?_) (fun c1 => ?_)
  · exfalso; cases c1
  · refine lv_iconst (v := nI 0) hx hb dX4_waitedPrinters_13 (by decide) ?_
    exact pm_retI hx hb hlk hr hq hP hD hS dX4_waitedPrinters_14 rfl rfl

set_option maxHeartbeats 4000000 in
theorem m_sequenceOffice_ok (l : Launch) (D : va_G) (h : Nat → Nat) (cI : ClassId) (f : Nat → Int32) (g : Nat → Nat → Int32) (B : Nat) (K : Nat) (N : Nat) (wl : List Nat) (o : Nat) (hI : pc_inv B (g 1) K N wl) (ho : o < N) : pm_C l yX4_sequenceOffice (ws_ yX4_sequenceOffice cX4_sequenceOffice 2 (some .int)) ({ frames := 7, cells := 0, slots := 0, locals := 159 } : Room) D h cI [.ref (h 0), .int (nI o)] f g (some (.int (pc_nx (pc_next (g 1) K N (pc_ones (g 1) K N o)) N))) (va_up f 0 (nI 0)) g := by
  refine pm_enter (cc := cX4_sequenceOffice) (maxL := 2) (ret := (some .int)) (by decide) (Nat.le_of_ble_eq_true rfl) ?_
  intro p e s m below meth c A Qc ls hx hb hml hown hts hlk hA hK hP hD hS hr hq hl
  have hl : lv_has ls 2 [(0, .ref (h 0)), (1, .int (nI o))] := hl
  have hN := hI.N0
  have hK0 := hI.K0
  have hN8 := hI.N8
  have hK4 := hI.K4
  have hN1 := hI.N1
  have hK1 := hI.K1
  have hwt := hI.waiting
  have hln := hI.len
  refine lv_aload_n hx hb dX4_sequenceOffice_0 rfl (lv_at hl 0 rfl) ?_
  refine lv_iconst (v := nI 0) hx hb dX4_sequenceOffice_1 (by decide) ?_
  refine pm_put0 (f := f) (f2 := (va_up f 0 (nI 0))) hx hb hts hown hK hP hD hS (hts _ q2482) rfl dX4_sequenceOffice_2 (fun H locs hP hD hS => ?_)
  refine lv_aload_n hx hb dX4_sequenceOffice_5 rfl (lv_at hl 0 rfl) ?_
  refine lv_iload_n hx hb dX4_sequenceOffice_6 rfl (lv_at hl 1 rfl) ?_
  refine pm_callI (n := 1) [] hx hb hml hown hts hA hK (m_noOffice_ok l D h cI (va_up f 0 (nI 0)) g N o (by first | assumption | omega | rfl) (by first | assumption | omega | rfl) (by first | assumption | omega | rfl) (by first | assumption | omega | rfl)) (lw_V q2610 q2612 qs61 q122 q2613) ⟨rfl, rfl⟩ (by decide +kernel) ⟨Nat.le_of_ble_eq_true rfl, Nat.le_of_ble_eq_true rfl⟩ hP hD hS rfl hl.1 rfl (Nat.le_of_ble_eq_true rfl) ⟨Nat.zero_le _, Nat.zero_le _⟩ dX4_sequenceOffice_7 (fun H locs hP hD hS => ?_)
  refine pb_if_eq (tgt := 17) hx hb dX4_sequenceOffice_10 (by decide) (fun c1 => ?_) (fun c1 => ?_)
  · refine lv_aload_n hx hb dX4_sequenceOffice_17 rfl (lv_at hl 0 rfl) ?_
    refine lv_aload_n hx hb dX4_sequenceOffice_18 rfl (lv_at hl 0 rfl) ?_
    refine lv_iload_n hx hb dX4_sequenceOffice_19 rfl (lv_at hl 1 rfl) ?_
    refine pm_callI (n := 1) [.ref (h 0)] hx hb hml hown hts hA hK (m_firstOnes l D h cI (va_up f 0 (nI 0)) g K N o (by first | assumption | omega | rfl) (by first | assumption | omega | rfl) (by first | assumption | omega | rfl) (by first | assumption | omega | rfl) (by first | assumption | omega | rfl)) (lw_V q2459 q2461 qs52 q122 q2462) ⟨rfl, rfl⟩ (by decide +kernel) ⟨Nat.le_of_ble_eq_true rfl, Nat.le_of_ble_eq_true rfl⟩ hP hD hS rfl hl.1 rfl (Nat.le_of_ble_eq_true rfl) ⟨Nat.zero_le _, Nat.zero_le _⟩ dX4_sequenceOffice_20 (fun H locs hP hD hS => ?_)
    refine pm_callI (n := 1) [] hx hb hml hown hts hA hK (m_nextIn l D h cI (va_up f 0 (nI 0)) g K N (pc_ones (g 1) K N o) (by first | assumption | omega | rfl) (by first | assumption | omega | rfl) (by first | assumption | omega | rfl) (by first | assumption | omega | rfl) (pc_ones_256 _ hN8 _)) (lw_V q2463 q2465 qs53 q122 q2466) ⟨rfl, rfl⟩ (by decide +kernel) ⟨Nat.le_of_ble_eq_true rfl, Nat.le_of_ble_eq_true rfl⟩ hP hD hS rfl hl.1 rfl (Nat.le_of_ble_eq_true rfl) ⟨Nat.zero_le _, Nat.zero_le _⟩ dX4_sequenceOffice_23 (fun H locs hP hD hS => ?_)
    exact pm_retI hx hb hlk hr hq hP hD hS dX4_sequenceOffice_26 rfl rfl
  · exfalso; cases c1

set_option maxHeartbeats 4000000 in
theorem m_sequenceOffice_no (l : Launch) (D : va_G) (h : Nat → Nat) (cI : ClassId) (f : Nat → Int32) (g : Nat → Nat → Int32) (B : Nat) (K : Nat) (N : Nat) (wl : List Nat) (x8 : Int32) (hI : pc_inv B (g 1) K N wl) (hx8 : pc_inr x8 (nI 0) (nI (N - 1)) = false) : pm_C l yX4_sequenceOffice (ws_ yX4_sequenceOffice cX4_sequenceOffice 2 (some .int)) ({ frames := 2, cells := 0, slots := 0, locals := 43 } : Room) D h cI [.ref (h 0), .int (x8)] f g (some (.int (nI 0))) (va_up f 0 (nI 1)) g := by
  refine pm_enter (cc := cX4_sequenceOffice) (maxL := 2) (ret := (some .int)) (by decide) (Nat.le_of_ble_eq_true rfl) ?_
  intro p e s m below meth c A Qc ls hx hb hml hown hts hlk hA hK hP hD hS hr hq hl
  have hl : lv_has ls 2 [(0, .ref (h 0)), (1, .int (x8))] := hl
  have hN := hI.N0
  have hK0 := hI.K0
  have hN8 := hI.N8
  have hK4 := hI.K4
  have hN1 := hI.N1
  have hK1 := hI.K1
  have hwt := hI.waiting
  have hln := hI.len
  refine lv_aload_n hx hb dX4_sequenceOffice_0 rfl (lv_at hl 0 rfl) ?_
  refine lv_iconst (v := nI 0) hx hb dX4_sequenceOffice_1 (by decide) ?_
  refine pm_put0 (f := f) (f2 := (va_up f 0 (nI 0))) hx hb hts hown hK hP hD hS (hts _ q2482) rfl dX4_sequenceOffice_2 (fun H locs hP hD hS => ?_)
  refine lv_aload_n hx hb dX4_sequenceOffice_5 rfl (lv_at hl 0 rfl) ?_
  refine lv_iload_n hx hb dX4_sequenceOffice_6 rfl (lv_at hl 1 rfl) ?_
  refine pm_callI (n := 1) [] hx hb hml hown hts hA hK (m_noOffice_no l D h cI (va_up f 0 (nI 0)) g N x8 (by first | assumption | omega | rfl) (by first | assumption | omega | rfl) (by first | assumption | omega | rfl) (by first | assumption | omega | rfl) (by first | assumption | omega | rfl)) (lw_V q2610 q2612 qs61 q122 q2613) ⟨rfl, rfl⟩ (by decide +kernel) ⟨Nat.le_of_ble_eq_true rfl, Nat.le_of_ble_eq_true rfl⟩ hP hD hS rfl hl.1 rfl (Nat.le_of_ble_eq_true rfl) ⟨Nat.zero_le _, Nat.zero_le _⟩ dX4_sequenceOffice_7 (fun H locs hP hD hS => ?_)
  have hP : va_P D pc_Cl (pm_W h cI (va_up f 0 (nI 1)) g) H := hP
  have hD : va_D A (pm_W h cI (va_up f 0 (nI 1)) g) := hD
  refine pb_if_eq (tgt := 17) hx hb dX4_sequenceOffice_10 (by decide) (fun c1 => ?_) (fun c1 => ?_)
  · exfalso; cases c1
  · refine lv_iconst (v := nI 0) hx hb dX4_sequenceOffice_13 (by decide) ?_
    refine lv_goto (tgt := 26) hx hb dX4_sequenceOffice_14 (by decide) ?_
    exact pm_retI hx hb hlk hr hq hP hD hS dX4_sequenceOffice_26 rfl rfl

set_option maxHeartbeats 4000000 in
theorem m_sequenceAvailable_ok (l : Launch) (D : va_G) (h : Nat → Nat) (cI : ClassId) (f : Nat → Int32) (g : Nat → Nat → Int32) (B : Nat) (K : Nat) (N : Nat) (wl : List Nat) (o : Nat) (k : Nat) (hI : pc_inv B (g 1) K N wl) (ho : o < N) (hk : k < K) : pm_C l yX4_sequenceAvailable (ws_ yX4_sequenceAvailable cX4_sequenceAvailable 3 (some .int)) ({ frames := 7, cells := 0, slots := 0, locals := 159 } : Room) D h cI [.ref (h 0), .int (nI o), .int (nI k)] f g (some (.int (pc_after (g 1) N (pc_ones (g 1) K N o) k))) (va_up f 0 (nI 0)) g := by
  refine pm_enter (cc := cX4_sequenceAvailable) (maxL := 3) (ret := (some .int)) (by decide) (Nat.le_of_ble_eq_true rfl) ?_
  intro p e s m below meth c A Qc ls hx hb hml hown hts hlk hA hK hP hD hS hr hq hl
  have hl : lv_has ls 3 [(0, .ref (h 0)), (1, .int (nI o)), (2, .int (nI k))] := hl
  have hN := hI.N0
  have hK0 := hI.K0
  have hN8 := hI.N8
  have hK4 := hI.K4
  have hN1 := hI.N1
  have hK1 := hI.K1
  have hwt := hI.waiting
  have hln := hI.len
  refine lv_aload_n hx hb dX4_sequenceAvailable_0 rfl (lv_at hl 0 rfl) ?_
  refine lv_iconst (v := nI 0) hx hb dX4_sequenceAvailable_1 (by decide) ?_
  refine pm_put0 (f := f) (f2 := (va_up f 0 (nI 0))) hx hb hts hown hK hP hD hS (hts _ q2482) rfl dX4_sequenceAvailable_2 (fun H locs hP hD hS => ?_)
  refine lv_aload_n hx hb dX4_sequenceAvailable_5 rfl (lv_at hl 0 rfl) ?_
  refine lv_iload_n hx hb dX4_sequenceAvailable_6 rfl (lv_at hl 1 rfl) ?_
  refine lv_iload_n hx hb dX4_sequenceAvailable_7 rfl (lv_at hl 2 rfl) ?_
  refine pm_callI (n := 2) [] hx hb hml hown hts hA hK (m_noPair_ok l D h cI (va_up f 0 (nI 0)) g K N o k (by first | assumption | omega | rfl) (by first | assumption | omega | rfl) (by first | assumption | omega | rfl) (by first | assumption | omega | rfl) (by first | assumption | omega | rfl) (by first | assumption | omega | rfl) (by first | assumption | omega | rfl)) (lw_V q2606 q2608 qs60 q122 q2609) ⟨rfl, rfl⟩ (by decide +kernel) ⟨Nat.le_of_ble_eq_true rfl, Nat.le_of_ble_eq_true rfl⟩ hP hD hS rfl hl.1 rfl (Nat.le_of_ble_eq_true rfl) ⟨Nat.zero_le _, Nat.zero_le _⟩ dX4_sequenceAvailable_8 (fun H locs hP hD hS => ?_)
  refine pb_if_eq (tgt := 18) hx hb dX4_sequenceAvailable_11 (by decide) (fun c1 => ?_) (fun c1 => ?_)
  · refine lv_aload_n hx hb dX4_sequenceAvailable_18 rfl (lv_at hl 0 rfl) ?_
    refine lv_aload_n hx hb dX4_sequenceAvailable_19 rfl (lv_at hl 0 rfl) ?_
    refine lv_iload_n hx hb dX4_sequenceAvailable_20 rfl (lv_at hl 1 rfl) ?_
    refine pm_callI (n := 1) [.ref (h 0)] hx hb hml hown hts hA hK (m_firstOnes l D h cI (va_up f 0 (nI 0)) g K N o (by first | assumption | omega | rfl) (by first | assumption | omega | rfl) (by first | assumption | omega | rfl) (by first | assumption | omega | rfl) (by first | assumption | omega | rfl)) (lw_V q2459 q2461 qs52 q122 q2462) ⟨rfl, rfl⟩ (by decide +kernel) ⟨Nat.le_of_ble_eq_true rfl, Nat.le_of_ble_eq_true rfl⟩ hP hD hS rfl hl.1 rfl (Nat.le_of_ble_eq_true rfl) ⟨Nat.zero_le _, Nat.zero_le _⟩ dX4_sequenceAvailable_21 (fun H locs hP hD hS => ?_)
    refine lv_iload_n hx hb dX4_sequenceAvailable_24 rfl (lv_at hl 2 rfl) ?_
    refine pm_callI (n := 2) [] hx hb hml hown hts hA hK (m_freeAfter l D h cI (va_up f 0 (nI 0)) g N (pc_ones (g 1) K N o) k (by first | assumption | omega | rfl) (by first | assumption | omega | rfl) (pc_ones_256 _ hN8 _) (by first | assumption | omega | rfl)) (lw_V q2478 q2480 qs56 q122 q2481) ⟨rfl, rfl⟩ (by decide +kernel) ⟨Nat.le_of_ble_eq_true rfl, Nat.le_of_ble_eq_true rfl⟩ hP hD hS rfl hl.1 rfl (Nat.le_of_ble_eq_true rfl) ⟨Nat.zero_le _, Nat.zero_le _⟩ dX4_sequenceAvailable_25 (fun H locs hP hD hS => ?_)
    exact pm_retI hx hb hlk hr hq hP hD hS dX4_sequenceAvailable_28 rfl rfl
  · exfalso; cases c1

set_option maxHeartbeats 4000000 in
theorem m_sequenceAvailable_no (l : Launch) (D : va_G) (h : Nat → Nat) (cI : ClassId) (f : Nat → Int32) (g : Nat → Nat → Int32) (B : Nat) (K : Nat) (N : Nat) (wl : List Nat) (x8 : Int32) (y8 : Int32) (hI : pc_inv B (g 1) K N wl) (hx8 : pc_inr x8 (nI 0) (nI (N - 1)) = false) : pm_C l yX4_sequenceAvailable (ws_ yX4_sequenceAvailable cX4_sequenceAvailable 3 (some .int)) ({ frames := 3, cells := 0, slots := 0, locals := 65 } : Room) D h cI [.ref (h 0), .int (x8), .int (y8)] f g (some (.int (nI 0))) (va_up f 0 (nI 1)) g := by
  refine pm_enter (cc := cX4_sequenceAvailable) (maxL := 3) (ret := (some .int)) (by decide) (Nat.le_of_ble_eq_true rfl) ?_
  intro p e s m below meth c A Qc ls hx hb hml hown hts hlk hA hK hP hD hS hr hq hl
  have hl : lv_has ls 3 [(0, .ref (h 0)), (1, .int (x8)), (2, .int (y8))] := hl
  have hN := hI.N0
  have hK0 := hI.K0
  have hN8 := hI.N8
  have hK4 := hI.K4
  have hN1 := hI.N1
  have hK1 := hI.K1
  have hwt := hI.waiting
  have hln := hI.len
  refine lv_aload_n hx hb dX4_sequenceAvailable_0 rfl (lv_at hl 0 rfl) ?_
  refine lv_iconst (v := nI 0) hx hb dX4_sequenceAvailable_1 (by decide) ?_
  refine pm_put0 (f := f) (f2 := (va_up f 0 (nI 0))) hx hb hts hown hK hP hD hS (hts _ q2482) rfl dX4_sequenceAvailable_2 (fun H locs hP hD hS => ?_)
  refine lv_aload_n hx hb dX4_sequenceAvailable_5 rfl (lv_at hl 0 rfl) ?_
  refine lv_iload_n hx hb dX4_sequenceAvailable_6 rfl (lv_at hl 1 rfl) ?_
  refine lv_iload_n hx hb dX4_sequenceAvailable_7 rfl (lv_at hl 2 rfl) ?_
  refine pm_callI (n := 2) [] hx hb hml hown hts hA hK (m_noPair_no l D h cI (va_up f 0 (nI 0)) g N x8 y8 (by first | assumption | omega | rfl) (by first | assumption | omega | rfl) (by first | assumption | omega | rfl) (by first | assumption | omega | rfl) (by first | assumption | omega | rfl)) (lw_V q2606 q2608 qs60 q122 q2609) ⟨rfl, rfl⟩ (by decide +kernel) ⟨Nat.le_of_ble_eq_true rfl, Nat.le_of_ble_eq_true rfl⟩ hP hD hS rfl hl.1 rfl (Nat.le_of_ble_eq_true rfl) ⟨Nat.zero_le _, Nat.zero_le _⟩ dX4_sequenceAvailable_8 (fun H locs hP hD hS => ?_)
  have hP : va_P D pc_Cl (pm_W h cI (va_up f 0 (nI 1)) g) H := hP
  have hD : va_D A (pm_W h cI (va_up f 0 (nI 1)) g) := hD
  refine pb_if_eq (tgt := 18) hx hb dX4_sequenceAvailable_11 (by decide) (fun c1 => ?_) (fun c1 => ?_)
  · exfalso; cases c1
  · refine lv_iconst (v := nI 0) hx hb dX4_sequenceAvailable_14 (by decide) ?_
    refine lv_goto (tgt := 28) hx hb dX4_sequenceAvailable_15 (by decide) ?_
    exact pm_retI hx hb hlk hr hq hP hD hS dX4_sequenceAvailable_28 rfl rfl

set_option maxHeartbeats 4000000 in
theorem m_sequenceAvailable_nk (l : Launch) (D : va_G) (h : Nat → Nat) (cI : ClassId) (f : Nat → Int32) (g : Nat → Nat → Int32) (B : Nat) (K : Nat) (N : Nat) (wl : List Nat) (o : Nat) (y8 : Int32) (hI : pc_inv B (g 1) K N wl) (ho : o < N) (hx8 : pc_inr y8 (nI 0) (nI (K - 1)) = false) : pm_C l yX4_sequenceAvailable (ws_ yX4_sequenceAvailable cX4_sequenceAvailable 3 (some .int)) ({ frames := 3, cells := 0, slots := 0, locals := 65 } : Room) D h cI [.ref (h 0), .int (nI o), .int (y8)] f g (some (.int (nI 0))) (va_up f 0 (nI 1)) g := by
  refine pm_enter (cc := cX4_sequenceAvailable) (maxL := 3) (ret := (some .int)) (by decide) (Nat.le_of_ble_eq_true rfl) ?_
  intro p e s m below meth c A Qc ls hx hb hml hown hts hlk hA hK hP hD hS hr hq hl
  have hl : lv_has ls 3 [(0, .ref (h 0)), (1, .int (nI o)), (2, .int (y8))] := hl
  have hN := hI.N0
  have hK0 := hI.K0
  have hN8 := hI.N8
  have hK4 := hI.K4
  have hN1 := hI.N1
  have hK1 := hI.K1
  have hwt := hI.waiting
  have hln := hI.len
  refine lv_aload_n hx hb dX4_sequenceAvailable_0 rfl (lv_at hl 0 rfl) ?_
  refine lv_iconst (v := nI 0) hx hb dX4_sequenceAvailable_1 (by decide) ?_
  refine pm_put0 (f := f) (f2 := (va_up f 0 (nI 0))) hx hb hts hown hK hP hD hS (hts _ q2482) rfl dX4_sequenceAvailable_2 (fun H locs hP hD hS => ?_)
  refine lv_aload_n hx hb dX4_sequenceAvailable_5 rfl (lv_at hl 0 rfl) ?_
  refine lv_iload_n hx hb dX4_sequenceAvailable_6 rfl (lv_at hl 1 rfl) ?_
  refine lv_iload_n hx hb dX4_sequenceAvailable_7 rfl (lv_at hl 2 rfl) ?_
  refine pm_callI (n := 2) [] hx hb hml hown hts hA hK (m_noPair_nk l D h cI (va_up f 0 (nI 0)) g K N o y8 (by first | assumption | omega | rfl) (by first | assumption | omega | rfl) (by first | assumption | omega | rfl) (by first | assumption | omega | rfl) (by first | assumption | omega | rfl) (by first | assumption | omega | rfl) (by first | assumption | omega | rfl) (by first | assumption | omega | rfl)) (lw_V q2606 q2608 qs60 q122 q2609) ⟨rfl, rfl⟩ (by decide +kernel) ⟨Nat.le_of_ble_eq_true rfl, Nat.le_of_ble_eq_true rfl⟩ hP hD hS rfl hl.1 rfl (Nat.le_of_ble_eq_true rfl) ⟨Nat.zero_le _, Nat.zero_le _⟩ dX4_sequenceAvailable_8 (fun H locs hP hD hS => ?_)
  have hP : va_P D pc_Cl (pm_W h cI (va_up f 0 (nI 1)) g) H := hP
  have hD : va_D A (pm_W h cI (va_up f 0 (nI 1)) g) := hD
  refine pb_if_eq (tgt := 18) hx hb dX4_sequenceAvailable_11 (by decide) (fun c1 => ?_) (fun c1 => ?_)
  · exfalso; cases c1
  · refine lv_iconst (v := nI 0) hx hb dX4_sequenceAvailable_14 (by decide) ?_
    refine lv_goto (tgt := 28) hx hb dX4_sequenceAvailable_15 (by decide) ?_
    exact pm_retI hx hb hlk hr hq hP hD hS dX4_sequenceAvailable_28 rfl rfl

set_option maxHeartbeats 4000000 in
theorem m_obstacle (l : Launch) (D : va_G) (h : Nat → Nat) (cI : ClassId) (f : Nat → Int32) (g : Nat → Nat → Int32) (B : Nat) (K : Nat) (N : Nat) (wl : List Nat) (o : Nat) (k : Nat) (x : Int32) (hI : pc_inv B (g 1) K N wl) (ho : o < N) (hk : k < K) : pm_C l yX4_obstacle (ws_ yX4_obstacle cX4_obstacle 4 (some .int)) ({ frames := 9, cells := 0, slots := 0, locals := 203 } : Room) D h cI [.ref (h 0), .int (nI o), .int (nI k), .int (x)] f g (some (.int (pc_obst (g 1) K N o k x))) f g := by
  refine pm_enter (cc := cX4_obstacle) (maxL := 4) (ret := (some .int)) (by decide) (Nat.le_of_ble_eq_true rfl) ?_
  intro p e s m below meth c A Qc ls hx hb hml hown hts hlk hA hK hP hD hS hr hq hl
  have hl : lv_has ls 4 [(0, .ref (h 0)), (1, .int (nI o)), (2, .int (nI k)), (3, .int (x))] := hl
  have hN := hI.N0
  have hK0 := hI.K0
  have hN8 := hI.N8
  have hK4 := hI.K4
  have hN1 := hI.N1
  have hK1 := hI.K1
  have hwt := hI.waiting
  have hln := hI.len
  refine lv_aload_n hx hb dX4_obstacle_0 rfl (lv_at hl 0 rfl) ?_
  refine lv_iload_n hx hb dX4_obstacle_1 rfl (lv_at hl 1 rfl) ?_
  refine pm_callI (n := 1) [] hx hb hml hown hts hA hK (m_isWaiting l D h cI f g o (by first | assumption | omega | rfl)) (lw_V q2653 q2655 qs64 q122 q2656) ⟨rfl, rfl⟩ (by decide +kernel) ⟨Nat.le_of_ble_eq_true rfl, Nat.le_of_ble_eq_true rfl⟩ hP hD hS rfl hl.1 rfl (Nat.le_of_ble_eq_true rfl) ⟨Nat.zero_le _, Nat.zero_le _⟩ dX4_obstacle_2 (fun H locs hP hD hS => ?_)
  refine pb_if_eq (tgt := 10) hx hb dX4_obstacle_5 (by decide) (fun c1 => ?_) (fun c1 => ?_)
  · refine lv_iload_n hx hb dX4_obstacle_10 rfl (lv_at hl 3 rfl) ?_
    refine lv_aload_n hx hb dX4_obstacle_11 rfl (lv_at hl 0 rfl) ?_
    refine lv_iload_n hx hb dX4_obstacle_12 rfl (lv_at hl 1 rfl) ?_
    refine lv_iload_n hx hb dX4_obstacle_13 rfl (lv_at hl 2 rfl) ?_
    refine pm_callI (n := 2) [.int (x)] hx hb hml hown hts hA hK (m_needOf l D h cI f g o k (by first | assumption | omega | rfl) (by first | assumption | omega | rfl)) (lw_V q2474 q2476 qs55 q122 q2477) ⟨rfl, rfl⟩ (by decide +kernel) ⟨Nat.le_of_ble_eq_true rfl, Nat.le_of_ble_eq_true rfl⟩ hP hD hS rfl hl.1 rfl (Nat.le_of_ble_eq_true rfl) ⟨Nat.zero_le _, Nat.zero_le _⟩ dX4_obstacle_14 (fun H locs hP hD hS => ?_)
    refine lv_icmp_le (tgt := 22) hx hb dX4_obstacle_17 (by decide) (fun c2 => ?_) (fun c2 => ?_)
    · refine lv_aload_n hx hb dX4_obstacle_22 rfl (lv_at hl 0 rfl) ?_
      refine lv_iload_n hx hb dX4_obstacle_23 rfl (lv_at hl 2 rfl) ?_
      refine pm_callI (n := 1) [] hx hb hml hown hts hA hK (m_free l D h cI f g N k (by first | assumption | omega | rfl) (by first | assumption | omega | rfl) (by first | assumption | omega | rfl)) (lw_V q2447 q2449 qs49 q122 q2450) ⟨rfl, rfl⟩ (by decide +kernel) ⟨Nat.le_of_ble_eq_true rfl, Nat.le_of_ble_eq_true rfl⟩ hP hD hS rfl hl.1 rfl (Nat.le_of_ble_eq_true rfl) ⟨Nat.zero_le _, Nat.zero_le _⟩ dX4_obstacle_24 (fun H locs hP hD hS => ?_)
      refine lv_iload_n hx hb dX4_obstacle_27 rfl (lv_at hl 3 rfl) ?_
      refine lv_icmp_ge (tgt := 33) hx hb dX4_obstacle_28 (by decide) (fun c3 => ?_) (fun c3 => ?_)
      · refine lv_aload_n hx hb dX4_obstacle_33 rfl (lv_at hl 0 rfl) ?_
        refine lv_iload_n hx hb dX4_obstacle_34 rfl (lv_at hl 1 rfl) ?_
        refine lv_iload_n hx hb dX4_obstacle_35 rfl (lv_at hl 2 rfl) ?_
        refine lv_iload_n hx hb dX4_obstacle_36 rfl (lv_at hl 3 rfl) ?_
        refine pm_callI (n := 3) [] hx hb hml hown hts hA hK (m_isSafeWith l D h cI f g K N o k x (by first | assumption | omega | rfl) (by first | assumption | omega | rfl) (by first | assumption | omega | rfl) (by first | assumption | omega | rfl) (by first | assumption | omega | rfl) (by first | assumption | omega | rfl)) (lw_V q2716 q2718 qs69 q122 q2719) ⟨rfl, rfl⟩ (by decide +kernel) ⟨Nat.le_of_ble_eq_true rfl, Nat.le_of_ble_eq_true rfl⟩ hP hD hS rfl hl.1 rfl (Nat.le_of_ble_eq_true rfl) ⟨Nat.zero_le _, Nat.zero_le _⟩ dX4_obstacle_37 (fun H locs hP hD hS => ?_)
        refine pb_if_eq (tgt := 47) hx hb dX4_obstacle_40 (by decide) (fun c4 => ?_) (fun c4 => ?_)
        · refine lv_iconst (v := nI 4) hx hb dX4_obstacle_47 (by decide) ?_
          exact pm_retI hx hb hlk hr hq hP hD hS dX4_obstacle_48 (by simp [pc_obst, c1, c2, c3, c4]) rfl
        · refine lv_iconst (v := nI 0) hx hb dX4_obstacle_43 (by decide) ?_
          refine lv_goto (tgt := 48) hx hb dX4_obstacle_44 (by decide) ?_
          exact pm_retI hx hb hlk hr hq hP hD hS dX4_obstacle_48 (by simp [pc_obst, c1, c2, c3, c4]) rfl
      · refine lv_iconst (v := nI 3) hx hb dX4_obstacle_31 (by decide) ?_
        exact pm_retI hx hb hlk hr hq hP hD hS dX4_obstacle_32 (by simp [pc_obst, c1, c2, c3]) rfl
    · refine lv_iconst (v := nI 2) hx hb dX4_obstacle_20 (by decide) ?_
      exact pm_retI hx hb hlk hr hq hP hD hS dX4_obstacle_21 (by simp [pc_obst, c1, c2]) rfl
  · refine lv_iconst (v := nI 1) hx hb dX4_obstacle_8 (by decide) ?_
    exact pm_retI hx hb hlk hr hq hP hD hS dX4_obstacle_9 (by simp [pc_obst, c1]) rfl

set_option maxHeartbeats 4000000 in
theorem m_requestObstacle_ok (l : Launch) (D : va_G) (h : Nat → Nat) (cI : ClassId) (f : Nat → Int32) (g : Nat → Nat → Int32) (B : Nat) (K : Nat) (N : Nat) (wl : List Nat) (o : Nat) (k : Nat) (x : Int32) (hI : pc_inv B (g 1) K N wl) (ho : o < N) (hk : k < K) (hr20 : pc_inr x (nI 1) (nI 20) = true) : pm_C l yX4_requestObstacle (ws_ yX4_requestObstacle cX4_requestObstacle 4 (some .int)) ({ frames := 10, cells := 0, slots := 0, locals := 226 } : Room) D h cI [.ref (h 0), .int (nI o), .int (nI k), .int (x)] f g (some (.int (pc_obst (g 1) K N o k x))) (va_up f 0 (nI 0)) g := by
  refine pm_enter (cc := cX4_requestObstacle) (maxL := 4) (ret := (some .int)) (by decide) (Nat.le_of_ble_eq_true rfl) ?_
  intro p e s m below meth c A Qc ls hx hb hml hown hts hlk hA hK hP hD hS hr hq hl
  have hl : lv_has ls 4 [(0, .ref (h 0)), (1, .int (nI o)), (2, .int (nI k)), (3, .int (x))] := hl
  have hN := hI.N0
  have hK0 := hI.K0
  have hN8 := hI.N8
  have hK4 := hI.K4
  have hN1 := hI.N1
  have hK1 := hI.K1
  have hwt := hI.waiting
  have hln := hI.len
  refine lv_aload_n hx hb dX4_requestObstacle_0 rfl (lv_at hl 0 rfl) ?_
  refine lv_iconst (v := nI 0) hx hb dX4_requestObstacle_1 (by decide) ?_
  refine pm_put0 (f := f) (f2 := (va_up f 0 (nI 0))) hx hb hts hown hK hP hD hS (hts _ q2482) rfl dX4_requestObstacle_2 (fun H locs hP hD hS => ?_)
  refine lv_aload_n hx hb dX4_requestObstacle_5 rfl (lv_at hl 0 rfl) ?_
  refine lv_iload_n hx hb dX4_requestObstacle_6 rfl (lv_at hl 1 rfl) ?_
  refine lv_iload_n hx hb dX4_requestObstacle_7 rfl (lv_at hl 2 rfl) ?_
  refine pm_callI (n := 2) [] hx hb hml hown hts hA hK (m_noPair_ok l D h cI (va_up f 0 (nI 0)) g K N o k (by first | assumption | omega | rfl) (by first | assumption | omega | rfl) (by first | assumption | omega | rfl) (by first | assumption | omega | rfl) (by first | assumption | omega | rfl) (by first | assumption | omega | rfl) (by first | assumption | omega | rfl)) (lw_V q2606 q2608 qs60 q122 q2609) ⟨rfl, rfl⟩ (by decide +kernel) ⟨Nat.le_of_ble_eq_true rfl, Nat.le_of_ble_eq_true rfl⟩ hP hD hS rfl hl.1 rfl (Nat.le_of_ble_eq_true rfl) ⟨Nat.zero_le _, Nat.zero_le _⟩ dX4_requestObstacle_8 (fun H locs hP hD hS => ?_)
  refine pb_if_ne (tgt := 29) hx hb dX4_requestObstacle_11 (by decide) (fun c1 => ?_) (fun c1 => ?_)
  · exfalso; cases c1
  · refine lv_aload_n hx hb dX4_requestObstacle_14 rfl (lv_at hl 0 rfl) ?_
    refine lv_iload_n hx hb dX4_requestObstacle_15 rfl (lv_at hl 3 rfl) ?_
    refine lv_iconst (v := nI 1) hx hb dX4_requestObstacle_16 (by decide) ?_
    refine lv_bipush (v := nI 20) hx hb dX4_requestObstacle_17 (by decide) ?_
    refine pp_callS (n := 3) (rest := [.ref (h 0)]) hx hb hml hown hts (m_in_ok l x (nI 1) (nI 20) (by first | assumption | omega | rfl)) (lw_S q2363 q2364 q122 q2365) ⟨rfl, rfl⟩ (by decide +kernel) ⟨Nat.le_of_ble_eq_true rfl, Nat.le_of_ble_eq_true rfl⟩ rfl hl.1 rfl (Nat.le_of_ble_eq_true rfl) dX4_requestObstacle_19 ⟨Nat.zero_le _, Nat.zero_le _⟩ ?_
    refine lv_iconst (v := nI 2) hx hb dX4_requestObstacle_22 (by decide) ?_
    refine pm_callI (n := 2) [] hx hb hml hown hts hA hK (m_fails_ok l D h cI (va_up f 0 (nI 0)) g (nI 2) (by first | assumption | omega | rfl)) (lw_V q2366 q2368 qs32 q122 q2369) ⟨rfl, rfl⟩ (by decide +kernel) ⟨Nat.le_of_ble_eq_true rfl, Nat.le_of_ble_eq_true rfl⟩ hP hD hS rfl hl.1 rfl (Nat.le_of_ble_eq_true rfl) ⟨Nat.zero_le _, Nat.zero_le _⟩ dX4_requestObstacle_23 (fun H locs hP hD hS => ?_)
    refine pb_if_eq (tgt := 33) hx hb dX4_requestObstacle_26 (by decide) (fun c2 => ?_) (fun c2 => ?_)
    · refine lv_aload_n hx hb dX4_requestObstacle_33 rfl (lv_at hl 0 rfl) ?_
      refine lv_iload_n hx hb dX4_requestObstacle_34 rfl (lv_at hl 1 rfl) ?_
      refine lv_iload_n hx hb dX4_requestObstacle_35 rfl (lv_at hl 2 rfl) ?_
      refine lv_iload_n hx hb dX4_requestObstacle_36 rfl (lv_at hl 3 rfl) ?_
      refine pm_callI (n := 3) [] hx hb hml hown hts hA hK (m_obstacle l D h cI (va_up f 0 (nI 0)) g B K N wl o k x (by first | assumption | omega | rfl) (by first | assumption | omega | rfl) (by first | assumption | omega | rfl)) (lw_V q2712 q2714 qs68 q122 q2715) ⟨rfl, rfl⟩ (by decide +kernel) ⟨Nat.le_of_ble_eq_true rfl, Nat.le_of_ble_eq_true rfl⟩ hP hD hS rfl hl.1 rfl (Nat.le_of_ble_eq_true rfl) ⟨Nat.zero_le _, Nat.zero_le _⟩ dX4_requestObstacle_37 (fun H locs hP hD hS => ?_)
      exact pm_retI hx hb hlk hr hq hP hD hS dX4_requestObstacle_40 rfl rfl
    · exfalso; cases c2

set_option maxHeartbeats 4000000 in
theorem m_requestObstacle_nr (l : Launch) (D : va_G) (h : Nat → Nat) (cI : ClassId) (f : Nat → Int32) (g : Nat → Nat → Int32) (B : Nat) (K : Nat) (N : Nat) (wl : List Nat) (o : Nat) (k : Nat) (x : Int32) (hI : pc_inv B (g 1) K N wl) (ho : o < N) (hk : k < K) (hr20 : pc_inr x (nI 1) (nI 20) = false) : pm_C l yX4_requestObstacle (ws_ yX4_requestObstacle cX4_requestObstacle 4 (some .int)) ({ frames := 3, cells := 0, slots := 0, locals := 65 } : Room) D h cI [.ref (h 0), .int (nI o), .int (nI k), .int (x)] f g (some (.int (nI 0))) (va_up f 0 (nI 2)) g := by
  refine pm_enter (cc := cX4_requestObstacle) (maxL := 4) (ret := (some .int)) (by decide) (Nat.le_of_ble_eq_true rfl) ?_
  intro p e s m below meth c A Qc ls hx hb hml hown hts hlk hA hK hP hD hS hr hq hl
  have hl : lv_has ls 4 [(0, .ref (h 0)), (1, .int (nI o)), (2, .int (nI k)), (3, .int (x))] := hl
  have hN := hI.N0
  have hK0 := hI.K0
  have hN8 := hI.N8
  have hK4 := hI.K4
  have hN1 := hI.N1
  have hK1 := hI.K1
  have hwt := hI.waiting
  have hln := hI.len
  refine lv_aload_n hx hb dX4_requestObstacle_0 rfl (lv_at hl 0 rfl) ?_
  refine lv_iconst (v := nI 0) hx hb dX4_requestObstacle_1 (by decide) ?_
  refine pm_put0 (f := f) (f2 := (va_up f 0 (nI 0))) hx hb hts hown hK hP hD hS (hts _ q2482) rfl dX4_requestObstacle_2 (fun H locs hP hD hS => ?_)
  refine lv_aload_n hx hb dX4_requestObstacle_5 rfl (lv_at hl 0 rfl) ?_
  refine lv_iload_n hx hb dX4_requestObstacle_6 rfl (lv_at hl 1 rfl) ?_
  refine lv_iload_n hx hb dX4_requestObstacle_7 rfl (lv_at hl 2 rfl) ?_
  refine pm_callI (n := 2) [] hx hb hml hown hts hA hK (m_noPair_ok l D h cI (va_up f 0 (nI 0)) g K N o k (by first | assumption | omega | rfl) (by first | assumption | omega | rfl) (by first | assumption | omega | rfl) (by first | assumption | omega | rfl) (by first | assumption | omega | rfl) (by first | assumption | omega | rfl) (by first | assumption | omega | rfl)) (lw_V q2606 q2608 qs60 q122 q2609) ⟨rfl, rfl⟩ (by decide +kernel) ⟨Nat.le_of_ble_eq_true rfl, Nat.le_of_ble_eq_true rfl⟩ hP hD hS rfl hl.1 rfl (Nat.le_of_ble_eq_true rfl) ⟨Nat.zero_le _, Nat.zero_le _⟩ dX4_requestObstacle_8 (fun H locs hP hD hS => ?_)
  refine pb_if_ne (tgt := 29) hx hb dX4_requestObstacle_11 (by decide) (fun c1 => ?_) (fun c1 => ?_)
  · exfalso; cases c1
  · refine lv_aload_n hx hb dX4_requestObstacle_14 rfl (lv_at hl 0 rfl) ?_
    refine lv_iload_n hx hb dX4_requestObstacle_15 rfl (lv_at hl 3 rfl) ?_
    refine lv_iconst (v := nI 1) hx hb dX4_requestObstacle_16 (by decide) ?_
    refine lv_bipush (v := nI 20) hx hb dX4_requestObstacle_17 (by decide) ?_
    refine pp_callS (n := 3) (rest := [.ref (h 0)]) hx hb hml hown hts (m_in_no l x (nI 1) (nI 20) (by first | assumption | omega | rfl)) (lw_S q2363 q2364 q122 q2365) ⟨rfl, rfl⟩ (by decide +kernel) ⟨Nat.le_of_ble_eq_true rfl, Nat.le_of_ble_eq_true rfl⟩ rfl hl.1 rfl (Nat.le_of_ble_eq_true rfl) dX4_requestObstacle_19 ⟨Nat.zero_le _, Nat.zero_le _⟩ ?_
    refine lv_iconst (v := nI 2) hx hb dX4_requestObstacle_22 (by decide) ?_
    refine pm_callI (n := 2) [] hx hb hml hown hts hA hK (m_fails_no l D h cI (va_up f 0 (nI 0)) g 2 (by first | assumption | omega | rfl) (by first | assumption | omega | rfl) (by first | assumption | omega | rfl)) (lw_V q2366 q2368 qs32 q122 q2369) ⟨rfl, rfl⟩ (by decide +kernel) ⟨Nat.le_of_ble_eq_true rfl, Nat.le_of_ble_eq_true rfl⟩ hP hD hS rfl hl.1 rfl (Nat.le_of_ble_eq_true rfl) ⟨Nat.zero_le _, Nat.zero_le _⟩ dX4_requestObstacle_23 (fun H locs hP hD hS => ?_)
    have hP : va_P D pc_Cl (pm_W h cI (va_up f 0 (nI 2)) g) H := hP
    have hD : va_D A (pm_W h cI (va_up f 0 (nI 2)) g) := hD
    refine pb_if_eq (tgt := 33) hx hb dX4_requestObstacle_26 (by decide) (fun c2 => ?_) (fun c2 => ?_)
    · exfalso; cases c2
    · refine lv_iconst (v := nI 0) hx hb dX4_requestObstacle_29 (by decide) ?_
      refine lv_goto (tgt := 40) hx hb dX4_requestObstacle_30 (by decide) ?_
      exact pm_retI hx hb hlk hr hq hP hD hS dX4_requestObstacle_40 rfl rfl

set_option maxHeartbeats 4000000 in
theorem m_requestObstacle_no (l : Launch) (D : va_G) (h : Nat → Nat) (cI : ClassId) (f : Nat → Int32) (g : Nat → Nat → Int32) (B : Nat) (K : Nat) (N : Nat) (wl : List Nat) (x8 : Int32) (y8 : Int32) (z8 : Int32) (hI : pc_inv B (g 1) K N wl) (hx8 : pc_inr x8 (nI 0) (nI (N - 1)) = false) : pm_C l yX4_requestObstacle (ws_ yX4_requestObstacle cX4_requestObstacle 4 (some .int)) ({ frames := 3, cells := 0, slots := 0, locals := 65 } : Room) D h cI [.ref (h 0), .int (x8), .int (y8), .int (z8)] f g (some (.int (nI 0))) (va_up f 0 (nI 1)) g := by
  refine pm_enter (cc := cX4_requestObstacle) (maxL := 4) (ret := (some .int)) (by decide) (Nat.le_of_ble_eq_true rfl) ?_
  intro p e s m below meth c A Qc ls hx hb hml hown hts hlk hA hK hP hD hS hr hq hl
  have hl : lv_has ls 4 [(0, .ref (h 0)), (1, .int (x8)), (2, .int (y8)), (3, .int (z8))] := hl
  have hN := hI.N0
  have hK0 := hI.K0
  have hN8 := hI.N8
  have hK4 := hI.K4
  have hN1 := hI.N1
  have hK1 := hI.K1
  have hwt := hI.waiting
  have hln := hI.len
  refine lv_aload_n hx hb dX4_requestObstacle_0 rfl (lv_at hl 0 rfl) ?_
  refine lv_iconst (v := nI 0) hx hb dX4_requestObstacle_1 (by decide) ?_
  refine pm_put0 (f := f) (f2 := (va_up f 0 (nI 0))) hx hb hts hown hK hP hD hS (hts _ q2482) rfl dX4_requestObstacle_2 (fun H locs hP hD hS => ?_)
  refine lv_aload_n hx hb dX4_requestObstacle_5 rfl (lv_at hl 0 rfl) ?_
  refine lv_iload_n hx hb dX4_requestObstacle_6 rfl (lv_at hl 1 rfl) ?_
  refine lv_iload_n hx hb dX4_requestObstacle_7 rfl (lv_at hl 2 rfl) ?_
  refine pm_callI (n := 2) [] hx hb hml hown hts hA hK (m_noPair_no l D h cI (va_up f 0 (nI 0)) g N x8 y8 (by first | assumption | omega | rfl) (by first | assumption | omega | rfl) (by first | assumption | omega | rfl) (by first | assumption | omega | rfl) (by first | assumption | omega | rfl)) (lw_V q2606 q2608 qs60 q122 q2609) ⟨rfl, rfl⟩ (by decide +kernel) ⟨Nat.le_of_ble_eq_true rfl, Nat.le_of_ble_eq_true rfl⟩ hP hD hS rfl hl.1 rfl (Nat.le_of_ble_eq_true rfl) ⟨Nat.zero_le _, Nat.zero_le _⟩ dX4_requestObstacle_8 (fun H locs hP hD hS => ?_)
  have hP : va_P D pc_Cl (pm_W h cI (va_up f 0 (nI 1)) g) H := hP
  have hD : va_D A (pm_W h cI (va_up f 0 (nI 1)) g) := hD
  refine pb_if_ne (tgt := 29) hx hb dX4_requestObstacle_11 (by decide) (fun c1 => ?_) (fun c1 => ?_)
  · refine lv_iconst (v := nI 0) hx hb dX4_requestObstacle_29 (by decide) ?_
    refine lv_goto (tgt := 40) hx hb dX4_requestObstacle_30 (by decide) ?_
    exact pm_retI hx hb hlk hr hq hP hD hS dX4_requestObstacle_40 rfl rfl
  · exfalso; cases c1

set_option maxHeartbeats 4000000 in
theorem m_requestObstacle_nk (l : Launch) (D : va_G) (h : Nat → Nat) (cI : ClassId) (f : Nat → Int32) (g : Nat → Nat → Int32) (B : Nat) (K : Nat) (N : Nat) (wl : List Nat) (o : Nat) (y8 : Int32) (z8 : Int32) (hI : pc_inv B (g 1) K N wl) (ho : o < N) (hx8 : pc_inr y8 (nI 0) (nI (K - 1)) = false) : pm_C l yX4_requestObstacle (ws_ yX4_requestObstacle cX4_requestObstacle 4 (some .int)) ({ frames := 3, cells := 0, slots := 0, locals := 65 } : Room) D h cI [.ref (h 0), .int (nI o), .int (y8), .int (z8)] f g (some (.int (nI 0))) (va_up f 0 (nI 1)) g := by
  refine pm_enter (cc := cX4_requestObstacle) (maxL := 4) (ret := (some .int)) (by decide) (Nat.le_of_ble_eq_true rfl) ?_
  intro p e s m below meth c A Qc ls hx hb hml hown hts hlk hA hK hP hD hS hr hq hl
  have hl : lv_has ls 4 [(0, .ref (h 0)), (1, .int (nI o)), (2, .int (y8)), (3, .int (z8))] := hl
  have hN := hI.N0
  have hK0 := hI.K0
  have hN8 := hI.N8
  have hK4 := hI.K4
  have hN1 := hI.N1
  have hK1 := hI.K1
  have hwt := hI.waiting
  have hln := hI.len
  refine lv_aload_n hx hb dX4_requestObstacle_0 rfl (lv_at hl 0 rfl) ?_
  refine lv_iconst (v := nI 0) hx hb dX4_requestObstacle_1 (by decide) ?_
  refine pm_put0 (f := f) (f2 := (va_up f 0 (nI 0))) hx hb hts hown hK hP hD hS (hts _ q2482) rfl dX4_requestObstacle_2 (fun H locs hP hD hS => ?_)
  refine lv_aload_n hx hb dX4_requestObstacle_5 rfl (lv_at hl 0 rfl) ?_
  refine lv_iload_n hx hb dX4_requestObstacle_6 rfl (lv_at hl 1 rfl) ?_
  refine lv_iload_n hx hb dX4_requestObstacle_7 rfl (lv_at hl 2 rfl) ?_
  refine pm_callI (n := 2) [] hx hb hml hown hts hA hK (m_noPair_nk l D h cI (va_up f 0 (nI 0)) g K N o y8 (by first | assumption | omega | rfl) (by first | assumption | omega | rfl) (by first | assumption | omega | rfl) (by first | assumption | omega | rfl) (by first | assumption | omega | rfl) (by first | assumption | omega | rfl) (by first | assumption | omega | rfl) (by first | assumption | omega | rfl)) (lw_V q2606 q2608 qs60 q122 q2609) ⟨rfl, rfl⟩ (by decide +kernel) ⟨Nat.le_of_ble_eq_true rfl, Nat.le_of_ble_eq_true rfl⟩ hP hD hS rfl hl.1 rfl (Nat.le_of_ble_eq_true rfl) ⟨Nat.zero_le _, Nat.zero_le _⟩ dX4_requestObstacle_8 (fun H locs hP hD hS => ?_)
  have hP : va_P D pc_Cl (pm_W h cI (va_up f 0 (nI 1)) g) H := hP
  have hD : va_D A (pm_W h cI (va_up f 0 (nI 1)) g) := hD
  refine pb_if_ne (tgt := 29) hx hb dX4_requestObstacle_11 (by decide) (fun c1 => ?_) (fun c1 => ?_)
  · refine lv_iconst (v := nI 0) hx hb dX4_requestObstacle_29 (by decide) ?_
    refine lv_goto (tgt := 40) hx hb dX4_requestObstacle_30 (by decide) ?_
    exact pm_retI hx hb hlk hr hq hP hD hS dX4_requestObstacle_40 rfl rfl
  · exfalso; cases c1
