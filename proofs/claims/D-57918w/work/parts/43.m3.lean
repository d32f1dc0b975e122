/-! THE REFERENCE 3: orders, undo -/
set_option maxRecDepth 100000
set_option maxHeartbeats 4000000 in
theorem m_fails_ok (l : Launch) (D : va_G) (h : Nat → Nat) (cI : ClassId) (f : Nat → Int32) (g : Nat → Nat → Int32) (x8 : Int32) (hf0 : f 0 = nI 0) : pm_C l yX4_fails (ws_ yX4_fails cX4_fails 3 (some .boolean)) ({ frames := 0, cells := 0, slots := 0, locals := 0 } : Room) D h cI [.ref (h 0), .int (pc_b true), .int (x8)] f g (some (.int (pc_b false))) f g := by
  refine pm_enter (cc := cX4_fails) (maxL := 3) (ret := (some .boolean)) (by decide) (Nat.le_of_ble_eq_true rfl) ?_
  intro p e s m below meth c A Qc ls hx hb hml hown hts hlk hA hK hP hD hS hr hq hl
  have hl : lv_has ls 3 [(0, .ref (h 0)), (1, .int (pc_b true)), (2, .int (x8))] := hl
  refine lv_iload_n hx hb dX4_fails_0 rfl (lv_at hl 1 rfl) ?_
  refine pb_if_ne (tgt := 16) hx hb dX4_fails_1 (by decide) (fun c1 => ?_) (fun c1 => ?_)
  · refine lv_aload_n hx hb dX4_fails_16 rfl (lv_at hl 0 rfl) ?_
    refine va_get (D := D) (ci := 0) (v := .int (f 0)) (C := RX4) (T := TX4) (N := 22) hx hb hts in_X4 hown hK hP 0 rfl rfl 0 (by decide) (hts _ q2482) (fun _ h9 => h9) rfl dX4_fails_17 ?_
    refine pn_top hf0 ?_
    refine pn_if_eq (tgt := 27) hx hb (by omega) dX4_fails_20 (by decide) (fun c2 => ?_) (fun c2 => ?_)
    · refine lv_iconst (v := nI 0) hx hb dX4_fails_27 (by decide) ?_
      exact pm_retZ hx hb hlk hr hq hP hD hS dX4_fails_28 (by rfl) rfl
    · exfalso; omega
  · exfalso; cases c1

set_option maxHeartbeats 4000000 in
theorem m_fails_no (l : Launch) (D : va_G) (h : Nat → Nat) (cI : ClassId) (f : Nat → Int32) (g : Nat → Nat → Int32) (n8 : Nat) (hf0 : f 0 = nI 0) (hn8 : 0 < n8) (hn9 : n8 < 10) : pm_C l yX4_fails (ws_ yX4_fails cX4_fails 3 (some .boolean)) ({ frames := 0, cells := 0, slots := 0, locals := 0 } : Room) D h cI [.ref (h 0), .int (pc_b false), .int (nI n8)] f g (some (.int (pc_b true))) (va_up f 0 (nI n8)) g := by
  refine pm_enter (cc := cX4_fails) (maxL := 3) (ret := (some .boolean)) (by decide) (Nat.le_of_ble_eq_true rfl) ?_
  intro p e s m below meth c A Qc ls hx hb hml hown hts hlk hA hK hP hD hS hr hq hl
  have hl : lv_has ls 3 [(0, .ref (h 0)), (1, .int (pc_b false)), (2, .int (nI n8))] := hl
  refine lv_iload_n hx hb dX4_fails_0 rfl (lv_at hl 1 rfl) ?_
  refine pb_if_ne (tgt := 16) hx hb dX4_fails_1 (by decide) (fun c1 => ?_) (fun c1 => ?_)
  · exfalso; cases c1
  · refine lv_aload_n hx hb dX4_fails_4 rfl (lv_at hl 0 rfl) ?_
    refine va_get (D := D) (ci := 0) (v := .int (f 0)) (C := RX4) (T := TX4) (N := 22) hx hb hts in_X4 hown hK hP 0 rfl rfl 0 (by decide) (hts _ q2482) (fun _ h9 => h9) rfl dX4_fails_5 ?_
    refine pn_top hf0 ?_
    refine pn_if_ne (tgt := 16) hx hb (by omega) dX4_fails_8 (by decide) (fun c2 => ?_) (fun c2 => ?_)
    · exfalso; omega
    · refine lv_aload_n hx hb dX4_fails_11 rfl (lv_at hl 0 rfl) ?_
      refine lv_iload_n hx hb dX4_fails_12 rfl (lv_at hl 2 rfl) ?_
      refine pm_put0 (f := f) (f2 := (va_up f 0 (nI n8))) hx hb hts hown hK hP hD hS (hts _ q2482) rfl dX4_fails_13 (fun H locs hP hD hS => ?_)
      refine lv_aload_n hx hb dX4_fails_16 rfl (lv_at hl 0 rfl) ?_
      refine va_get (D := D) (ci := 0) (v := .int (nI n8)) (C := RX4) (T := TX4) (N := 22) hx hb hts in_X4 hown hK hP 0 rfl rfl 0 (by decide) (hts _ q2482) (fun _ h9 => h9) rfl dX4_fails_17 ?_
      refine pn_if_eq (tgt := 27) hx hb (by omega) dX4_fails_20 (by decide) (fun c3 => ?_) (fun c3 => ?_)
      · exfalso; omega
      · refine lv_iconst (v := nI 1) hx hb dX4_fails_23 (by decide) ?_
        refine lv_goto (tgt := 28) hx hb dX4_fails_24 (by decide) ?_
        exact pm_retZ hx hb hlk hr hq hP hD hS dX4_fails_28 (by rfl) rfl

set_option maxHeartbeats 4000000 in
theorem m_noKind_ok (l : Launch) (D : va_G) (h : Nat → Nat) (cI : ClassId) (f : Nat → Int32) (g : Nat → Nat → Int32) (K : Nat) (j : Nat) (hK0 : g 1 0 = nI K) (hK8 : K ≤ 8) (hj : j < K) (hf0 : f 0 = nI 0) : pm_C l yX4_noKind (ws_ yX4_noKind cX4_noKind 2 (some .boolean)) ({ frames := 1, cells := 0, slots := 0, locals := 22 } : Room) D h cI [.ref (h 0), .int (nI j)] f g (some (.int (pc_b false))) f g := by
  refine pm_enter (cc := cX4_noKind) (maxL := 2) (ret := (some .boolean)) (by decide) (Nat.le_of_ble_eq_true rfl) ?_
  intro p e s m below meth c A Qc ls hx hb hml hown hts hlk hA hK hP hD hS hr hq hl
  have hl : lv_has ls 2 [(0, .ref (h 0)), (1, .int (nI j))] := hl
  refine lv_aload_n hx hb dX4_noKind_0 rfl (lv_at hl 0 rfl) ?_
  refine lv_iload_n hx hb dX4_noKind_1 rfl (lv_at hl 1 rfl) ?_
  refine lv_iconst (v := nI 0) hx hb dX4_noKind_2 (by decide) ?_
  refine lv_aload_n hx hb dX4_noKind_3 rfl (lv_at hl 0 rfl) ?_
  refine va_get (D := D) (ci := 0) (v := .ref (h 1)) (C := RX4) (T := TX4) (N := 22) hx hb hts in_X4 hown hK hP 0 rfl rfl 1 (by decide) (hts _ q2483) (fun _ h9 => h9) rfl dX4_noKind_4 ?_
  refine lv_iconst (v := nI 0) hx hb dX4_noKind_7 (by decide) ?_
  refine pn_iald (e9 := 0) (f := g 1) hx hb hK hP 1 0 rfl rfl (by omega) (by decide) dX4_noKind_8 ?_
  refine pn_top hK0 ?_
  refine lv_iconst (v := nI 1) hx hb dX4_noKind_9 (by decide) ?_
  refine pn_isub hx hb (by omega) dX4_noKind_10 ?_
  refine pp_callS (n := 3) (rest := [.ref (h 0)]) hx hb hml hown hts (m_in_ok l (nI j) (nI 0) (nI (K - 1)) ((pc_inr_nat (by omega)).mpr ⟨j, by omega, rfl⟩)) (lw_S q2363 q2364 q122 q2365) ⟨rfl, rfl⟩ (by decide +kernel) ⟨Nat.le_of_ble_eq_true rfl, Nat.le_of_ble_eq_true rfl⟩ rfl hl.1 rfl (Nat.le_of_ble_eq_true rfl) dX4_noKind_11 ⟨Nat.zero_le _, Nat.zero_le _⟩ ?_
  refine lv_iconst (v := nI 1) hx hb dX4_noKind_14 (by decide) ?_
  refine pm_callI (n := 2) [] hx hb hml hown hts hA hK (m_fails_ok l D h cI f g (nI 1) (by first | assumption | omega | rfl)) (lw_V q2366 q2368 qs32 q122 q2369) ⟨rfl, rfl⟩ (by decide +kernel) ⟨Nat.le_of_ble_eq_true rfl, Nat.le_of_ble_eq_true rfl⟩ hP hD hS rfl hl.1 rfl (Nat.le_of_ble_eq_true rfl) ⟨Nat.zero_le _, Nat.zero_le _⟩ dX4_noKind_15 (fun H locs hP hD hS => ?_)
  exact pm_retZ hx hb hlk hr hq hP hD hS dX4_noKind_18 rfl rfl

set_option maxHeartbeats 4000000 in
theorem m_noKind_no (l : Launch) (D : va_G) (h : Nat → Nat) (cI : ClassId) (f : Nat → Int32) (g : Nat → Nat → Int32) (K : Nat) (x8 : Int32) (hK0 : g 1 0 = nI K) (hK8 : K ≤ 8) (h1 : 1 ≤ K) (hx8 : pc_inr x8 (nI 0) (nI (K - 1)) = false) (hf0 : f 0 = nI 0) : pm_C l yX4_noKind (ws_ yX4_noKind cX4_noKind 2 (some .boolean)) ({ frames := 1, cells := 0, slots := 0, locals := 22 } : Room) D h cI [.ref (h 0), .int (x8)] f g (some (.int (pc_b true))) (va_up f 0 (nI 1)) g := by
  refine pm_enter (cc := cX4_noKind) (maxL := 2) (ret := (some .boolean)) (by decide) (Nat.le_of_ble_eq_true rfl) ?_
  intro p e s m below meth c A Qc ls hx hb hml hown hts hlk hA hK hP hD hS hr hq hl
  have hl : lv_has ls 2 [(0, .ref (h 0)), (1, .int (x8))] := hl
  refine lv_aload_n hx hb dX4_noKind_0 rfl (lv_at hl 0 rfl) ?_
  refine lv_iload_n hx hb dX4_noKind_1 rfl (lv_at hl 1 rfl) ?_
  refine lv_iconst (v := nI 0) hx hb dX4_noKind_2 (by decide) ?_
  refine lv_aload_n hx hb dX4_noKind_3 rfl (lv_at hl 0 rfl) ?_
  refine va_get (D := D) (ci := 0) (v := .ref (h 1)) (C := RX4) (T := TX4) (N := 22) hx hb hts in_X4 hown hK hP 0 rfl rfl 1 (by decide) (hts _ q2483) (fun _ h9 => h9) rfl dX4_noKind_4 ?_
  refine lv_iconst (v := nI 0) hx hb dX4_noKind_7 (by decide) ?_
  refine pn_iald (e9 := 0) (f := g 1) hx hb hK hP 1 0 rfl rfl (by omega) (by decide) dX4_noKind_8 ?_
  refine pn_top hK0 ?_
  refine lv_iconst (v := nI 1) hx hb dX4_noKind_9 (by decide) ?_
  refine pn_isub hx hb (by omega) dX4_noKind_10 ?_
  refine pp_callS (n := 3) (rest := [.ref (h 0)]) hx hb hml hown hts (m_in_no l x8 (nI 0) (nI (K - 1)) hx8) (lw_S q2363 q2364 q122 q2365) ⟨rfl, rfl⟩ (by decide +kernel) ⟨Nat.le_of_ble_eq_true rfl, Nat.le_of_ble_eq_true rfl⟩ rfl hl.1 rfl (Nat.le_of_ble_eq_true rfl) dX4_noKind_11 ⟨Nat.zero_le _, Nat.zero_le _⟩ ?_
  refine lv_iconst (v := nI 1) hx hb dX4_noKind_14 (by decide) ?_
  refine pm_callI (n := 2) [] hx hb hml hown hts hA hK (m_fails_no l D h cI f g 1 (by first | assumption | omega | rfl) (by first | assumption | omega | rfl) (by first | assumption | omega | rfl)) (lw_V q2366 q2368 qs32 q122 q2369) ⟨rfl, rfl⟩ (by decide +kernel) ⟨Nat.le_of_ble_eq_true rfl, Nat.le_of_ble_eq_true rfl⟩ hP hD hS rfl hl.1 rfl (Nat.le_of_ble_eq_true rfl) ⟨Nat.zero_le _, Nat.zero_le _⟩ dX4_noKind_15 (fun H locs hP hD hS => ?_)
  have hP : va_P D pc_Cl (pm_W h cI (va_up f 0 (nI 1)) g) H := hP
  have hD : va_D A (pm_W h cI (va_up f 0 (nI 1)) g) := hD
  exact pm_retZ hx hb hlk hr hq hP hD hS dX4_noKind_18 rfl rfl

set_option maxHeartbeats 4000000 in
theorem m_noOffice_ok (l : Launch) (D : va_G) (h : Nat → Nat) (cI : ClassId) (f : Nat → Int32) (g : Nat → Nat → Int32) (N : Nat) (j : Nat) (hN0 : g 1 1 = nI N) (hN8 : N ≤ 8) (hj : j < N) (hf0 : f 0 = nI 0) : pm_C l yX4_noOffice (ws_ yX4_noOffice cX4_noOffice 2 (some .boolean)) ({ frames := 1, cells := 0, slots := 0, locals := 22 } : Room) D h cI [.ref (h 0), .int (nI j)] f g (some (.int (pc_b false))) f g := by
  refine pm_enter (cc := cX4_noOffice) (maxL := 2) (ret := (some .boolean)) (by decide) (Nat.le_of_ble_eq_true rfl) ?_
  intro p e s m below meth c A Qc ls hx hb hml hown hts hlk hA hK hP hD hS hr hq hl
  have hl : lv_has ls 2 [(0, .ref (h 0)), (1, .int (nI j))] := hl
  refine lv_aload_n hx hb dX4_noOffice_0 rfl (lv_at hl 0 rfl) ?_
  refine lv_iload_n hx hb dX4_noOffice_1 rfl (lv_at hl 1 rfl) ?_
  refine lv_iconst (v := nI 0) hx hb dX4_noOffice_2 (by decide) ?_
  refine lv_aload_n hx hb dX4_noOffice_3 rfl (lv_at hl 0 rfl) ?_
  refine va_get (D := D) (ci := 0) (v := .ref (h 1)) (C := RX4) (T := TX4) (N := 22) hx hb hts in_X4 hown hK hP 0 rfl rfl 1 (by decide) (hts _ q2483) (fun _ h9 => h9) rfl dX4_noOffice_4 ?_
  refine lv_iconst (v := nI 1) hx hb dX4_noOffice_7 (by decide) ?_
  refine pn_iald (e9 := 1) (f := g 1) hx hb hK hP 1 0 rfl rfl (by omega) (by decide) dX4_noOffice_8 ?_
  refine pn_top hN0 ?_
  refine lv_iconst (v := nI 1) hx hb dX4_noOffice_9 (by decide) ?_
  refine pn_isub hx hb (by omega) dX4_noOffice_10 ?_
  refine pp_callS (n := 3) (rest := [.ref (h 0)]) hx hb hml hown hts (m_in_ok l (nI j) (nI 0) (nI (N - 1)) ((pc_inr_nat (by omega)).mpr ⟨j, by omega, rfl⟩)) (lw_S q2363 q2364 q122 q2365) ⟨rfl, rfl⟩ (by decide +kernel) ⟨Nat.le_of_ble_eq_true rfl, Nat.le_of_ble_eq_true rfl⟩ rfl hl.1 rfl (Nat.le_of_ble_eq_true rfl) dX4_noOffice_11 ⟨Nat.zero_le _, Nat.zero_le _⟩ ?_
  refine lv_iconst (v := nI 1) hx hb dX4_noOffice_14 (by decide) ?_
  refine pm_callI (n := 2) [] hx hb hml hown hts hA hK (m_fails_ok l D h cI f g (nI 1) (by first | assumption | omega | rfl)) (lw_V q2366 q2368 qs32 q122 q2369) ⟨rfl, rfl⟩ (by decide +kernel) ⟨Nat.le_of_ble_eq_true rfl, Nat.le_of_ble_eq_true rfl⟩ hP hD hS rfl hl.1 rfl (Nat.le_of_ble_eq_true rfl) ⟨Nat.zero_le _, Nat.zero_le _⟩ dX4_noOffice_15 (fun H locs hP hD hS => ?_)
  exact pm_retZ hx hb hlk hr hq hP hD hS dX4_noOffice_18 rfl rfl

set_option maxHeartbeats 4000000 in
theorem m_noOffice_no (l : Launch) (D : va_G) (h : Nat → Nat) (cI : ClassId) (f : Nat → Int32) (g : Nat → Nat → Int32) (N : Nat) (x8 : Int32) (hN0 : g 1 1 = nI N) (hN8 : N ≤ 8) (h1 : 1 ≤ N) (hx8 : pc_inr x8 (nI 0) (nI (N - 1)) = false) (hf0 : f 0 = nI 0) : pm_C l yX4_noOffice (ws_ yX4_noOffice cX4_noOffice 2 (some .boolean)) ({ frames := 1, cells := 0, slots := 0, locals := 22 } : Room) D h cI [.ref (h 0), .int (x8)] f g (some (.int (pc_b true))) (va_up f 0 (nI 1)) g := by
  refine pm_enter (cc := cX4_noOffice) (maxL := 2) (ret := (some .boolean)) (by decide) (Nat.le_of_ble_eq_true rfl) ?_
  intro p e s m below meth c A Qc ls hx hb hml hown hts hlk hA hK hP hD hS hr hq hl
  have hl : lv_has ls 2 [(0, .ref (h 0)), (1, .int (x8))] := hl
  refine lv_aload_n hx hb dX4_noOffice_0 rfl (lv_at hl 0 rfl) ?_
  refine lv_iload_n hx hb dX4_noOffice_1 rfl (lv_at hl 1 rfl) ?_
  refine lv_iconst (v := nI 0) hx hb dX4_noOffice_2 (by decide) ?_
  refine lv_aload_n hx hb dX4_noOffice_3 rfl (lv_at hl 0 rfl) ?_
  refine va_get (D := D) (ci := 0) (v := .ref (h 1)) (C := RX4) (T := TX4) (N := 22) hx hb hts in_X4 hown hK hP 0 rfl rfl 1 (by decide) (hts _ q2483) (fun _ h9 => h9) rfl dX4_noOffice_4 ?_
  refine lv_iconst (v := nI 1) hx hb dX4_noOffice_7 (by decide) ?_
  refine pn_iald (e9 := 1) (f := g 1) hx hb hK hP 1 0 rfl rfl (by omega) (by decide) dX4_noOffice_8 ?_
  refine pn_top hN0 ?_
  refine lv_iconst (v := nI 1) hx hb dX4_noOffice_9 (by decide) ?_
  refine pn_isub hx hb (by omega) dX4_noOffice_10 ?_
  refine pp_callS (n := 3) (rest := [.ref (h 0)]) hx hb hml hown hts (m_in_no l x8 (nI 0) (nI (N - 1)) hx8) (lw_S q2363 q2364 q122 q2365) ⟨rfl, rfl⟩ (by decide +kernel) ⟨Nat.le_of_ble_eq_true rfl, Nat.le_of_ble_eq_true rfl⟩ rfl hl.1 rfl (Nat.le_of_ble_eq_true rfl) dX4_noOffice_11 ⟨Nat.zero_le _, Nat.zero_le _⟩ ?_
  refine lv_iconst (v := nI 1) hx hb dX4_noOffice_14 (by decide) ?_
  refine pm_callI (n := 2) [] hx hb hml hown hts hA hK (m_fails_no l D h cI f g 1 (by first | assumption | omega | rfl) (by first | assumption | omega | rfl) (by first | assumption | omega | rfl)) (lw_V q2366 q2368 qs32 q122 q2369) ⟨rfl, rfl⟩ (by decide +kernel) ⟨Nat.le_of_ble_eq_true rfl, Nat.le_of_ble_eq_true rfl⟩ hP hD hS rfl hl.1 rfl (Nat.le_of_ble_eq_true rfl) ⟨Nat.zero_le _, Nat.zero_le _⟩ dX4_noOffice_15 (fun H locs hP hD hS => ?_)
  have hP : va_P D pc_Cl (pm_W h cI (va_up f 0 (nI 1)) g) H := hP
  have hD : va_D A (pm_W h cI (va_up f 0 (nI 1)) g) := hD
  exact pm_retZ hx hb hlk hr hq hP hD hS dX4_noOffice_18 rfl rfl

set_option maxHeartbeats 4000000 in
theorem m_noPair_ok (l : Launch) (D : va_G) (h : Nat → Nat) (cI : ClassId) (f : Nat → Int32) (g : Nat → Nat → Int32) (K : Nat) (N : Nat) (o : Nat) (k : Nat) (hK0 : g 1 0 = nI K) (hK8 : K ≤ 8) (hN0 : g 1 1 = nI N) (hN8 : N ≤ 8) (ho : o < N) (hk : k < K) (hf0 : f 0 = nI 0) : pm_C l yX4_noPair (ws_ yX4_noPair cX4_noPair 3 (some .boolean)) ({ frames := 2, cells := 0, slots := 0, locals := 43 } : Room) D h cI [.ref (h 0), .int (nI o), .int (nI k)] f g (some (.int (pc_b false))) f g := by
  refine pm_enter (cc := cX4_noPair) (maxL := 3) (ret := (some .boolean)) (by decide) (Nat.le_of_ble_eq_true rfl) ?_
  intro p e s m below meth c A Qc ls hx hb hml hown hts hlk hA hK hP hD hS hr hq hl
  have hl : lv_has ls 3 [(0, .ref (h 0)), (1, .int (nI o)), (2, .int (nI k))] := hl
  refine lv_aload_n hx hb dX4_noPair_0 rfl (lv_at hl 0 rfl) ?_
  refine lv_iload_n hx hb dX4_noPair_1 rfl (lv_at hl 1 rfl) ?_
  refine pm_callI (n := 1) [] hx hb hml hown hts hA hK (m_noOffice_ok l D h cI f g N o (by first | assumption | omega | rfl) (by first | assumption | omega | rfl) (by first | assumption | omega | rfl) (by first | assumption | omega | rfl)) (lw_V q2610 q2612 qs61 q122 q2613) ⟨rfl, rfl⟩ (by decide +kernel) ⟨Nat.le_of_ble_eq_true rfl, Nat.le_of_ble_eq_true rfl⟩ hP hD hS rfl hl.1 rfl (Nat.le_of_ble_eq_true rfl) ⟨Nat.zero_le _, Nat.zero_le _⟩ dX4_noPair_2 (fun H locs hP hD hS => ?_)
  refine pb_if_ne (tgt := 16) hx hb dX4_noPair_5 (by decide) (fun c1 => ?_) (fun c1 => ?_)
  · exfalso; cases c1
  · refine lv_aload_n hx hb dX4_noPair_8 rfl (lv_at hl 0 rfl) ?_
    refine lv_iload_n hx hb dX4_noPair_9 rfl (lv_at hl 2 rfl) ?_
    refine pm_callI (n := 1) [] hx hb hml hown hts hA hK (m_noKind_ok l D h cI f g K k (by first | assumption | omega | rfl) (by first | assumption | omega | rfl) (by first | assumption | omega | rfl) (by first | assumption | omega | rfl)) (lw_V q2574 q2576 qs58 q122 q2577) ⟨rfl, rfl⟩ (by decide +kernel) ⟨Nat.le_of_ble_eq_true rfl, Nat.le_of_ble_eq_true rfl⟩ hP hD hS rfl hl.1 rfl (Nat.le_of_ble_eq_true rfl) ⟨Nat.zero_le _, Nat.zero_le _⟩ dX4_noPair_10 (fun H locs hP hD hS => ?_)
    refine pb_if_eq (tgt := 20) hx hb dX4_noPair_13 (by decide) (fun c2 => ?_) (fun c2 => ?_)
    · refine lv_iconst (v := nI 0) hx hb dX4_noPair_20 (by decide) ?_
      exact pm_retZ hx hb hlk hr hq hP hD hS dX4_noPair_21 (by rfl) rfl
    · exfalso; cases c2

set_option maxHeartbeats 4000000 in
theorem m_noPair_no (l : Launch) (D : va_G) (h : Nat → Nat) (cI : ClassId) (f : Nat → Int32) (g : Nat → Nat → Int32) (N : Nat) (x8 : Int32) (y8 : Int32) (hN0 : g 1 1 = nI N) (hN8 : N ≤ 8) (h1 : 1 ≤ N) (hx8 : pc_inr x8 (nI 0) (nI (N - 1)) = false) (hf0 : f 0 = nI 0) : pm_C l yX4_noPair (ws_ yX4_noPair cX4_noPair 3 (some .boolean)) ({ frames := 2, cells := 0, slots := 0, locals := 43 } : Room) D h cI [.ref (h 0), .int (x8), .int (y8)] f g (some (.int (pc_b true))) (va_up f 0 (nI 1)) g := by
  refine pm_enter (cc := cX4_noPair) (maxL := 3) (ret := (some .boolean)) (by decide) (Nat.le_of_ble_eq_true rfl) ?_
  intro p e s m below meth c A Qc ls hx hb hml hown hts hlk hA hK hP hD hS hr hq hl
  have hl : lv_has ls 3 [(0, .ref (h 0)), (1, .int (x8)), (2, .int (y8))] := hl
  refine lv_aload_n hx hb dX4_noPair_0 rfl (lv_at hl 0 rfl) ?_
  refine lv_iload_n hx hb dX4_noPair_1 rfl (lv_at hl 1 rfl) ?_
  refine pm_callI (n := 1) [] hx hb hml hown hts hA hK (m_noOffice_no l D h cI f g N x8 (by first | assumption | omega | rfl) (by first | assumption | omega | rfl) (by first | assumption | omega | rfl) (by first | assumption | omega | rfl) (by first | assumption | omega | rfl)) (lw_V q2610 q2612 qs61 q122 q2613) ⟨rfl, rfl⟩ (by decide +kernel) ⟨Nat.le_of_ble_eq_true rfl, Nat.le_of_ble_eq_true rfl⟩ hP hD hS rfl hl.1 rfl (Nat.le_of_ble_eq_true rfl) ⟨Nat.zero_le _, Nat.zero_le _⟩ dX4_noPair_2 (fun H locs hP hD hS => ?_)
  have hP : va_P D pc_Cl (pm_W h cI (va_up f 0 (nI 1)) g) H := hP
  have hD : va_D A (pm_W h cI (va_up f 0 (nI 1)) g) := hD
  refine pb_if_ne (tgt := 16) hx hb dX4_noPair_5 (by decide) (fun c1 => ?_) (fun c1 => ?_)
  · refine lv_iconst (v := nI 1) hx hb dX4_noPair_16 (by decide) ?_
    refine lv_goto (tgt := 21) hx hb dX4_noPair_17 (by decide) ?_
    exact pm_retZ hx hb hlk hr hq hP hD hS dX4_noPair_21 (by rfl) rfl
  · exfalso; cases c1

set_option maxHeartbeats 4000000 in
theorem m_noPair_nk (l : Launch) (D : va_G) (h : Nat → Nat) (cI : ClassId) (f : Nat → Int32) (g : Nat → Nat → Int32) (K : Nat) (N : Nat) (o : Nat) (y8 : Int32) (hK0 : g 1 0 = nI K) (hK8 : K ≤ 8) (hN0 : g 1 1 = nI N) (hN8 : N ≤ 8) (h1 : 1 ≤ K) (ho : o < N) (hx8 : pc_inr y8 (nI 0) (nI (K - 1)) = false) (hf0 : f 0 = nI 0) : pm_C l yX4_noPair (ws_ yX4_noPair cX4_noPair 3 (some .boolean)) ({ frames := 2, cells := 0, slots := 0, locals := 43 } : Room) D h cI [.ref (h 0), .int (nI o), .int (y8)] f g (some (.int (pc_b true))) (va_up f 0 (nI 1)) g := by
  refine pm_enter (cc := cX4_noPair) (maxL := 3) (ret := (some .boolean)) (by decide) (Nat.le_of_ble_eq_true rfl) ?_
  intro p e s m below meth c A Qc ls hx hb hml hown hts hlk hA hK hP hD hS hr hq hl
  have hl : lv_has ls 3 [(0, .ref (h 0)), (1, .int (nI o)), (2, .int (y8))] := hl
  refine lv_aload_n hx hb dX4_noPair_0 rfl (lv_at hl 0 rfl) ?_
  refine lv_iload_n hx hb dX4_noPair_1 rfl (lv_at hl 1 rfl) ?_
  refine pm_callI (n := 1) [] hx hb hml hown hts hA hK (m_noOffice_ok l D h cI f g N o (by first | assumption | omega | rfl) (by first | assumption | omega | rfl) (by first | assumption | omega | rfl) (by first | assumption | omega | rfl)) (lw_V q2610 q2612 qs61 q122 q2613) ⟨rfl, rfl⟩ (by decide +kernel) ⟨Nat.le_of_ble_eq_true rfl, Nat.le_of_ble_eq_true rfl⟩ hP hD hS rfl hl.1 rfl (Nat.le_of_ble_eq_true rfl) ⟨Nat.zero_le _, Nat.zero_le _⟩ dX4_noPair_2 (fun H locs hP hD hS => ?_)
  refine pb_if_ne (tgt := 16) hx hb dX4_noPair_5 (by decide) (fun c1 => ?_) (fun c1 => ?_)
  · exfalso; cases c1
  · refine lv_aload_n hx hb dX4_noPair_8 rfl (lv_at hl 0 rfl) ?_
    refine lv_iload_n hx hb dX4_noPair_9 rfl (lv_at hl 2 rfl) ?_
    refine pm_callI (n := 1) [] hx hb hml hown hts hA hK (m_noKind_no l D h cI f g K y8 (by first | assumption | omega | rfl) (by first | assumption | omega | rfl) (by first | assumption | omega | rfl) (by first | assumption | omega | rfl) (by first | assumption | omega | rfl)) (lw_V q2574 q2576 qs58 q122 q2577) ⟨rfl, rfl⟩ (by decide +kernel) ⟨Nat.le_of_ble_eq_true rfl, Nat.le_of_ble_eq_true rfl⟩ hP hD hS rfl hl.1 rfl (Nat.le_of_ble_eq_true rfl) ⟨Nat.zero_le _, Nat.zero_le _⟩ dX4_noPair_10 (fun H locs hP hD hS => ?_)
    have hP : va_P D pc_Cl (pm_W h cI (va_up f 0 (nI 1)) g) H := hP
    have hD : va_D A (pm_W h cI (va_up f 0 (nI 1)) g) := hD
    refine pb_if_eq (tgt := 20) hx hb dX4_noPair_13 (by decide) (fun c2 => ?_) (fun c2 => ?_)
    · exfalso; cases c2
    · refine lv_iconst (v := nI 1) hx hb dX4_noPair_16 (by decide) ?_
      refine lv_goto (tgt := 21) hx hb dX4_noPair_17 (by decide) ?_
      exact pm_retZ hx hb hlk hr hq hP hD hS dX4_noPair_21 (by rfl) rfl

set_option maxHeartbeats 4000000 in
theorem m_copies (l : Launch) (D : va_G) (h : Nat → Nat) (cI : ClassId) (f : Nat → Int32) (g : Nat → Nat → Int32) (i : Nat) (j : Nat) (qi : Nat) (qj : Nat) (ni : Nat) (nj : Nat) (a0 : Nat) (a1 : Nat) (n : Nat) (hi : ∀ g, (pm_W h cI f g)[qi]? = some (h i, .inl (cI, ni, .inl (g i)))) (hj : ∀ g, (pm_W h cI f g)[qj]? = some (h j, .inl (cI, nj, .inl (g j)))) (hset : ∀ g x, (pm_W h cI f g).set qj (h j, .inl (cI, nj, .inl x)) = pm_W h cI f (va_up g j x)) (hni : a0 + n ≤ ni) (hnj : a1 + n ≤ nj) (hn8 : ni ≤ 1000) (hn9 : nj ≤ 1000) : pm_C l yX4_copies (ws_ yX4_copies cX4_copies 6 none) ({ frames := 0, cells := 0, slots := 0, locals := 0 } : Room) D h cI [.ref (h i), .int (nI a0), .ref (h j), .int (nI a1), .int (nI n)] f g none f (va_up g j (pc_cp g i j a0 a1 n)) := by
  refine pm_enter (cc := cX4_copies) (maxL := 6) (ret := none) (by decide) (Nat.le_of_ble_eq_true rfl) ?_
  intro p e s m below meth c A Qc ls hx hb hml hown hts hlk hA hK hP hD hS hr hq hl
  have hl : lv_has ls 6 [(0, .ref (h i)), (1, .int (nI a0)), (2, .ref (h j)), (3, .int (nI a1)), (4, .int (nI n))] := hl
  refine lv_iconst (v := nI 0) hx hb dX4_copies_0 (by decide) ?_
  refine lv_istore (lv' := [(5, .int (nI 0)), (0, .ref (h i)), (1, .int (nI a0)), (2, .ref (h j)), (3, .int (nI a1)), (4, .int (nI n))]) hx hb dX4_copies_1 hl (by decide) rfl (fun ls hl => ?_)
  have eG : g = va_up g j (pc_cp g i j a0 a1 0) := (pc_upself g j)
  rw [eG] at hP hD
  have hloop3 : ∀ (n3 : Nat) (i1 : Nat), i1 ≤ n → n - i1 < n3 → ∀ (H : Heap) (locs : List Loc), va_P D pc_Cl (pm_W h cI f (va_up g j (pc_cp g i j a0 a1 i1))) H → va_D A (pm_W h cI f (va_up g j (pc_cp g i j a0 a1 i1))) → va_S A s.heap H locs → ∀ ls : Array Slot, lv_has ls 6 [(5, .int (nI i1)), (0, .ref (h i)), (1, .int (nI a0)), (2, .ref (h j)), (3, .int (nI a1)), (4, .int (nI n))] → W p l e ({ frames := 0, cells := 0, slots := 0, locals := 0 } : Room) s m ([.ref (h i), .int (nI a0), .ref (h j), .int (nI a1), .int (nI n)] : List Value).toArray below meth c H locs 0 0 (MQ below Qc ([.ref (h i), .int (nI a0), .ref (h j), .int (nI a1), .int (nI n)] : List Value).toArray s 0 0 A) (F0 m 3 ls []) := by
    intro n3
    induction n3 with
    | zero => intro i1 hi1 hm; exact absurd hm (by omega)
    | succ n3 ih3 =>
      intro i1 hi1 hm3 H locs hP hD hS ls hl
      refine lv_iload hx hb dX4_copies_3 (lv_at hl 0 rfl) ?_
      refine lv_iload hx hb dX4_copies_5 (lv_at hl 5 rfl) ?_
      refine pn_icmp_ge (tgt := 28) hx hb (by omega) (by omega) dX4_copies_7 (by decide) (fun c1 => ?_) (fun c1 => ?_)
      · exact pm_retV hx hb hlk hr hq hP hD hS dX4_copies_28 (by rw [show i1 = n from by omega])
      · refine lv_aload_n hx hb dX4_copies_10 rfl (lv_at hl 3 rfl) ?_
        refine lv_iload_n hx hb dX4_copies_11 rfl (lv_at hl 4 rfl) ?_
        refine lv_iload hx hb dX4_copies_12 (lv_at hl 0 rfl) ?_
        refine pn_iadd hx hb dX4_copies_14 ?_
        refine lv_aload_n hx hb dX4_copies_15 rfl (lv_at hl 1 rfl) ?_
        refine lv_iload_n hx hb dX4_copies_16 rfl (lv_at hl 2 rfl) ?_
        refine lv_iload hx hb dX4_copies_17 (lv_at hl 0 rfl) ?_
        refine pn_iadd hx hb dX4_copies_19 ?_
        refine pn_iald (e9 := a0 + i1) (f := (va_up g j (pc_cp g i j a0 a1 i1)) i) hx hb hK hP qi 0 (hi _) rfl (by omega) (by omega) dX4_copies_20 ?_
        refine pn_iast (e9 := a1 + i1) hx hb hK hP hD hS qj 0 (hj _) rfl (by omega) (by omega) dX4_copies_21 (fun H locs hP hD hS => ?_)
        rw [hset] at hP hD
        refine lv_iinc (v := nI (i1 + 1)) (lv' := [(5, .int (nI (i1 + 1))), (0, .ref (h i)), (1, .int (nI a0)), (2, .ref (h j)), (3, .int (nI a1)), (4, .int (nI n))]) hx hb dX4_copies_22 hl (k := 0) rfl (nI_1 _) (by decide) rfl (fun ls hl => ?_)
        refine lv_goto (tgt := 3) hx hb dX4_copies_25 (by decide) ?_
        have eG : (va_up (va_up g j (pc_cp g i j a0 a1 i1)) j (upd ((va_up g j (pc_cp g i j a0 a1 i1)) j) (a1 + i1) (((va_up g j (pc_cp g i j a0 a1 i1)) i) (a0 + i1)))) = va_up g j (pc_cp g i j a0 a1 (i1 + 1)) := (by rw [bx_uu, va_up_self]; rfl)
        rw [eG] at hP hD
        exact ih3 (i1 + 1) (by first | assumption | omega) (by omega) _ _ hP hD hS _ (lv_sub hl [0, 1, 2, 3, 4, 5] rfl)
  exact hloop3 (n - 0 + 1) 0 (by first | assumption | omega) (by omega) _ _ hP hD hS _ (lv_sub hl [0, 1, 2, 3, 4, 5] rfl)

set_option maxHeartbeats 4000000 in
theorem m_keeps (l : Launch) (D : va_G) (h : Nat → Nat) (cI : ClassId) (f : Nat → Int32) (g : Nat → Nat → Int32) (u : Nat) (hu : f 6 = nI u) (hu8 : u ≤ 8) : pm_C l yX4_keeps (ws_ yX4_keeps cX4_keeps 1 none) ({ frames := 1, cells := 0, slots := 0, locals := 25 } : Room) D h cI [.ref (h 0)] f g none (va_up f 6 (nI (pc_un u))) (va_up g 5 (pc_keep g u)) := by
  refine pm_enter (cc := cX4_keeps) (maxL := 1) (ret := none) (by decide) (Nat.le_of_ble_eq_true rfl) ?_
  intro p e s m below meth c A Qc ls hx hb hml hown hts hlk hA hK hP hD hS hr hq hl
  have hl : lv_has ls 1 [(0, .ref (h 0))] := hl
  refine lv_aload_n hx hb dX4_keeps_0 rfl (lv_at hl 0 rfl) ?_
  refine va_get (D := D) (ci := 0) (v := .int (f 6)) (C := RX4) (T := TX4) (N := 22) hx hb hts in_X4 hown hK hP 0 rfl rfl 6 (by decide) (hts _ q2488) (fun _ h9 => h9) rfl dX4_keeps_1 ?_
  refine pn_top hu ?_
  refine lv_bipush (v := nI 8) hx hb dX4_keeps_4 (by decide) ?_
  refine pn_icmp_ne (tgt := 36) hx hb (by omega) (by omega) dX4_keeps_6 (by decide) (fun c1 => ?_) (fun c1 => ?_)
  · refine lv_aload_n hx hb dX4_keeps_36 rfl (lv_at hl 0 rfl) ?_
    refine va_get (D := D) (ci := 0) (v := .ref (h 1)) (C := RX4) (T := TX4) (N := 22) hx hb hts in_X4 hown hK hP 0 rfl rfl 1 (by decide) (hts _ q2483) (fun _ h9 => h9) rfl dX4_keeps_37 ?_
    refine lv_iconst (v := nI 0) hx hb dX4_keeps_40 (by decide) ?_
    refine lv_aload_n hx hb dX4_keeps_41 rfl (lv_at hl 0 rfl) ?_
    refine va_get (D := D) (ci := 0) (v := .ref (h 5)) (C := RX4) (T := TX4) (N := 22) hx hb hts in_X4 hown hK hP 0 rfl rfl 5 (by decide) (hts _ q2487) (fun _ h9 => h9) rfl dX4_keeps_42 ?_
    refine lv_bipush (v := nI 101) hx hb dX4_keeps_45 (by decide) ?_
    refine lv_aload_n hx hb dX4_keeps_47 rfl (lv_at hl 0 rfl) ?_
    refine va_get (D := D) (ci := 0) (v := .int (f 6)) (C := RX4) (T := TX4) (N := 22) hx hb hts in_X4 hown hK hP 0 rfl rfl 6 (by decide) (hts _ q2488) (fun _ h9 => h9) rfl dX4_keeps_48 ?_
    refine pn_top hu ?_
    refine pn_imul hx hb dX4_keeps_51 ?_
    refine lv_bipush (v := nI 101) hx hb dX4_keeps_52 (by decide) ?_
    refine pm_callS (n := 5) [] hx hb hml hown hts hA hK (m_copies l D h cI f g 1 5 1 5 101 808 0 (101 * u) 101 (fun _ => rfl) (fun _ => rfl) (fun _ _ => rfl) (by first | assumption | omega | rfl) (by first | assumption | omega | rfl) (by first | assumption | omega | rfl) (by first | assumption | omega | rfl)) (lw_S q2370 q2371 q122 q2372) ⟨rfl, rfl⟩ (by decide +kernel) ⟨Nat.le_of_ble_eq_true rfl, Nat.le_of_ble_eq_true rfl⟩ hP hD hS rfl hl.1 rfl (Nat.le_of_ble_eq_true rfl) ⟨Nat.zero_le _, Nat.zero_le _⟩ dX4_keeps_54 (fun H locs hP hD hS => ?_)
    have hP : va_P D pc_Cl (pm_W h cI f (va_up g 5 (pc_cp g 1 5 0 (101 * u) 101))) H := hP
    have hD : va_D A (pm_W h cI f (va_up g 5 (pc_cp g 1 5 0 (101 * u) 101))) := hD
    refine lv_aload_n hx hb dX4_keeps_57 rfl (lv_at hl 0 rfl) ?_
    refine lv_dup hx hb dX4_keeps_58 rfl ?_
    refine va_get (D := D) (ci := 0) (v := .int (f 6)) (C := RX4) (T := TX4) (N := 22) hx hb hts in_X4 hown hK hP 0 rfl rfl 6 (by decide) (hts _ q2488) (fun _ h9 => h9) rfl dX4_keeps_59 ?_
    refine pn_top hu ?_
    refine lv_iconst (v := nI 1) hx hb dX4_keeps_62 (by decide) ?_
    refine pn_iadd hx hb dX4_keeps_63 ?_
    refine pm_put6 (f := f) (f2 := (va_up f 6 (nI (u + 1)))) hx hb hts hown hK hP hD hS (hts _ q2488) rfl dX4_keeps_64 (fun H locs hP hD hS => ?_)
    exact pm_retV hx hb hlk hr hq hP hD hS dX4_keeps_67 (by first | (rw [pc_keep, pc_un, if_neg c1, if_neg c1]) | (subst c1; rfl))
  · refine lv_aload_n hx hb dX4_keeps_9 rfl (lv_at hl 0 rfl) ?_
    refine va_get (D := D) (ci := 0) (v := .ref (h 5)) (C := RX4) (T := TX4) (N := 22) hx hb hts in_X4 hown hK hP 0 rfl rfl 5 (by decide) (hts _ q2487) (fun _ h9 => h9) rfl dX4_keeps_10 ?_
    refine lv_bipush (v := nI 101) hx hb dX4_keeps_13 (by decide) ?_
    refine lv_aload_n hx hb dX4_keeps_15 rfl (lv_at hl 0 rfl) ?_
    refine va_get (D := D) (ci := 0) (v := .ref (h 5)) (C := RX4) (T := TX4) (N := 22) hx hb hts in_X4 hown hK hP 0 rfl rfl 5 (by decide) (hts _ q2487) (fun _ h9 => h9) rfl dX4_keeps_16 ?_
    refine lv_iconst (v := nI 0) hx hb dX4_keeps_19 (by decide) ?_
    refine lv_sipush (v := nI 707) hx hb dX4_keeps_20 (by decide +kernel) ?_
    refine pm_callS (n := 5) [] hx hb hml hown hts hA hK (m_copies l D h cI f g 5 5 5 5 808 808 101 0 707 (fun _ => rfl) (fun _ => rfl) (fun _ _ => rfl) (by first | assumption | omega | rfl) (by first | assumption | omega | rfl) (by first | assumption | omega | rfl) (by first | assumption | omega | rfl)) (lw_S q2370 q2371 q122 q2372) ⟨rfl, rfl⟩ (by decide +kernel) ⟨Nat.le_of_ble_eq_true rfl, Nat.le_of_ble_eq_true rfl⟩ hP hD hS rfl hl.1 rfl (Nat.le_of_ble_eq_true rfl) ⟨Nat.zero_le _, Nat.zero_le _⟩ dX4_keeps_23 (fun H locs hP hD hS => ?_)
    have hP : va_P D pc_Cl (pm_W h cI f (va_up g 5 (pc_cp g 5 5 101 0 707))) H := hP
    have hD : va_D A (pm_W h cI f (va_up g 5 (pc_cp g 5 5 101 0 707))) := hD
    refine lv_aload_n hx hb dX4_keeps_26 rfl (lv_at hl 0 rfl) ?_
    refine lv_dup hx hb dX4_keeps_27 rfl ?_
    refine va_get (D := D) (ci := 0) (v := .int (f 6)) (C := RX4) (T := TX4) (N := 22) hx hb hts in_X4 hown hK hP 0 rfl rfl 6 (by decide) (hts _ q2488) (fun _ h9 => h9) rfl dX4_keeps_28 ?_
    refine pn_top hu ?_
    refine lv_iconst (v := nI 1) hx hb dX4_keeps_31 (by decide) ?_
    refine pn_isub hx hb (by omega) dX4_keeps_32 ?_
    refine pm_put6 (f := f) (f2 := (va_up f 6 (nI (u - 1)))) hx hb hts hown hK hP hD hS (hts _ q2488) rfl dX4_keeps_33 (fun H locs hP hD hS => ?_)
    refine lv_aload_n hx hb dX4_keeps_36 rfl (lv_at hl 0 rfl) ?_
    refine va_get (D := D) (ci := 0) (v := .ref (h 1)) (C := RX4) (T := TX4) (N := 22) hx hb hts in_X4 hown hK hP 0 rfl rfl 1 (by decide) (hts _ q2483) (fun _ h9 => h9) rfl dX4_keeps_37 ?_
    refine lv_iconst (v := nI 0) hx hb dX4_keeps_40 (by decide) ?_
    refine lv_aload_n hx hb dX4_keeps_41 rfl (lv_at hl 0 rfl) ?_
    refine va_get (D := D) (ci := 0) (v := .ref (h 5)) (C := RX4) (T := TX4) (N := 22) hx hb hts in_X4 hown hK hP 0 rfl rfl 5 (by decide) (hts _ q2487) (fun _ h9 => h9) rfl dX4_keeps_42 ?_
    refine lv_bipush (v := nI 101) hx hb dX4_keeps_45 (by decide) ?_
    refine lv_aload_n hx hb dX4_keeps_47 rfl (lv_at hl 0 rfl) ?_
    refine va_get (D := D) (ci := 0) (v := .int (nI (u - 1))) (C := RX4) (T := TX4) (N := 22) hx hb hts in_X4 hown hK hP 0 rfl rfl 6 (by decide) (hts _ q2488) (fun _ h9 => h9) rfl dX4_keeps_48 ?_
    refine pn_imul hx hb dX4_keeps_51 ?_
    refine lv_bipush (v := nI 101) hx hb dX4_keeps_52 (by decide) ?_
    refine pm_callS (n := 5) [] hx hb hml hown hts hA hK (m_copies l D h cI (va_up f 6 (nI (u - 1))) (va_up g 5 (pc_cp g 5 5 101 0 707)) 1 5 1 5 101 808 0 (101 * (u - 1)) 101 (fun _ => rfl) (fun _ => rfl) (fun _ _ => rfl) (by first | assumption | omega | rfl) (by first | assumption | omega | rfl) (by first | assumption | omega | rfl) (by first | assumption | omega | rfl)) (lw_S q2370 q2371 q122 q2372) ⟨rfl, rfl⟩ (by decide +kernel) ⟨Nat.le_of_ble_eq_true rfl, Nat.le_of_ble_eq_true rfl⟩ hP hD hS rfl hl.1 rfl (Nat.le_of_ble_eq_true rfl) ⟨Nat.zero_le _, Nat.zero_le _⟩ dX4_keeps_54 (fun H locs hP hD hS => ?_)
    have hP : va_P D pc_Cl (pm_W h cI (va_up f 6 (nI (u - 1))) (va_up g 5 (pc_cp (va_up g 5 (pc_cp g 5 5 101 0 707)) 1 5 0 (101 * (u - 1)) 101))) H := hP
    have hD : va_D A (pm_W h cI (va_up f 6 (nI (u - 1))) (va_up g 5 (pc_cp (va_up g 5 (pc_cp g 5 5 101 0 707)) 1 5 0 (101 * (u - 1)) 101))) := hD
    refine lv_aload_n hx hb dX4_keeps_57 rfl (lv_at hl 0 rfl) ?_
    refine lv_dup hx hb dX4_keeps_58 rfl ?_
    refine va_get (D := D) (ci := 0) (v := .int (nI (u - 1))) (C := RX4) (T := TX4) (N := 22) hx hb hts in_X4 hown hK hP 0 rfl rfl 6 (by decide) (hts _ q2488) (fun _ h9 => h9) rfl dX4_keeps_59 ?_
    refine lv_iconst (v := nI 1) hx hb dX4_keeps_62 (by decide) ?_
    refine pn_iadd hx hb dX4_keeps_63 ?_
    refine pm_put6 (f := (va_up f 6 (nI (u - 1)))) (f2 := (va_up f 6 (nI ((u - 1) + 1)))) hx hb hts hown hK hP hD hS (hts _ q2488) (bx_uu _ _ _ _) dX4_keeps_64 (fun H locs hP hD hS => ?_)
    exact pm_retV hx hb hlk hr hq hP hD hS dX4_keeps_67 (by first | (rw [pc_keep, pc_un, if_neg c1, if_neg c1]) | (subst c1; rfl))

set_option maxHeartbeats 4000000 in
theorem m_can0 (l : Launch) (D : va_G) (h : Nat → Nat) (cI : ClassId) (f : Nat → Int32) (g : Nat → Nat → Int32) (K : Nat) (N : Nat) (o : Nat) (k : Nat) (x : Int32) (hN : g 1 1 = nI N) (hN8 : N ≤ 8) (hK0 : g 1 0 = nI K) (hK4 : K ≤ 4) (ho : o < N) (hk : k < K) : pm_C l yX4_can (ws_ yX4_can cX4_can 5 (some .boolean)) ({ frames := 2, cells := 0, slots := 0, locals := 44 } : Room) D h cI [.ref (h 0), .int (nI 0), .int (nI o), .int (nI k), .int (x)] f g (some (.int (pc_b (pc_can0 (g 1) o k x)))) f g := by
  refine pm_enter (cc := cX4_can) (maxL := 5) (ret := (some .boolean)) (by decide) (Nat.le_of_ble_eq_true rfl) ?_
  intro p e s m below meth c A Qc ls hx hb hml hown hts hlk hA hK hP hD hS hr hq hl
  have hl : lv_has ls 5 [(0, .ref (h 0)), (1, .int (nI 0)), (2, .int (nI o)), (3, .int (nI k)), (4, .int (x))] := hl
  refine lv_iload_n hx hb dX4_can_0 rfl (lv_at hl 1 rfl) ?_
  refine lv_tableIn (off := 43) (tgt := 44) hx hb dX4_can_1 (by decide +kernel) (by decide +kernel) (by decide +kernel) (by decide) ?_
  refine lv_aload_n hx hb dX4_can_44 rfl (lv_at hl 0 rfl) ?_
  refine lv_iload_n hx hb dX4_can_45 rfl (lv_at hl 2 rfl) ?_
  refine pm_callI (n := 1) [] hx hb hml hown hts hA hK (m_isWaiting l D h cI f g o (by first | assumption | omega | rfl)) (lw_V q2653 q2655 qs64 q122 q2656) ⟨rfl, rfl⟩ (by decide +kernel) ⟨Nat.le_of_ble_eq_true rfl, Nat.le_of_ble_eq_true rfl⟩ hP hD hS rfl hl.1 rfl (Nat.le_of_ble_eq_true rfl) ⟨Nat.zero_le _, Nat.zero_le _⟩ dX4_can_46 (fun H locs hP hD hS => ?_)
  refine pb_if_ne (tgt := 67) hx hb dX4_can_49 (by decide) (fun c1 => ?_) (fun c1 => ?_)
  · refine lv_iconst (v := nI 0) hx hb dX4_can_67 (by decide) ?_
    exact pm_retZ hx hb hlk hr hq hP hD hS dX4_can_68 (by simp [pc_b, pc_can0, pc_can1, pc_can5, -Nat.zero_add, c1]) rfl
  · refine lv_iload hx hb dX4_can_52 (lv_at hl 4 rfl) ?_
    refine lv_aload_n hx hb dX4_can_54 rfl (lv_at hl 0 rfl) ?_
    refine lv_iload_n hx hb dX4_can_55 rfl (lv_at hl 2 rfl) ?_
    refine lv_iload_n hx hb dX4_can_56 rfl (lv_at hl 3 rfl) ?_
    refine pm_callI (n := 2) [.int (x)] hx hb hml hown hts hA hK (m_needOf l D h cI f g o k (by first | assumption | omega | rfl) (by first | assumption | omega | rfl)) (lw_V q2474 q2476 qs55 q122 q2477) ⟨rfl, rfl⟩ (by decide +kernel) ⟨Nat.le_of_ble_eq_true rfl, Nat.le_of_ble_eq_true rfl⟩ hP hD hS rfl hl.1 rfl (Nat.le_of_ble_eq_true rfl) ⟨Nat.zero_le _, Nat.zero_le _⟩ dX4_can_57 (fun H locs hP hD hS => ?_)
    refine lv_icmp_gt (tgt := 67) hx hb dX4_can_60 (by decide) (fun c2 => ?_) (fun c2 => ?_)
    · refine lv_iconst (v := nI 0) hx hb dX4_can_67 (by decide) ?_
      exact pm_retZ hx hb hlk hr hq hP hD hS dX4_can_68 (by simp [pc_b, pc_can0, pc_can1, pc_can5, -Nat.zero_add, c1, c2]) rfl
    · refine lv_iconst (v := nI 1) hx hb dX4_can_63 (by decide) ?_
      refine lv_goto (tgt := 68) hx hb dX4_can_64 (by decide) ?_
      exact pm_retZ hx hb hlk hr hq hP hD hS dX4_can_68 (by simp [pc_b, pc_can0, pc_can1, pc_can5, -Nat.zero_add, c1, c2]) rfl

set_option maxHeartbeats 4000000 in
theorem m_can1 (l : Launch) (D : va_G) (h : Nat → Nat) (cI : ClassId) (f : Nat → Int32) (g : Nat → Nat → Int32) (K : Nat) (N : Nat) (o : Nat) (k : Nat) (x : Int32) (hN : g 1 1 = nI N) (hN8 : N ≤ 8) (hK0 : g 1 0 = nI K) (hK4 : K ≤ 4) (ho : o < N) (hk : k < K) : pm_C l yX4_can (ws_ yX4_can cX4_can 5 (some .boolean)) ({ frames := 1, cells := 0, slots := 0, locals := 22 } : Room) D h cI [.ref (h 0), .int (nI 1), .int (nI o), .int (nI k), .int (x)] f g (some (.int (pc_b (pc_can1 (g 1) o k x)))) f g := by
  refine pm_enter (cc := cX4_can) (maxL := 5) (ret := (some .boolean)) (by decide) (Nat.le_of_ble_eq_true rfl) ?_
  intro p e s m below meth c A Qc ls hx hb hml hown hts hlk hA hK hP hD hS hr hq hl
  have hl : lv_has ls 5 [(0, .ref (h 0)), (1, .int (nI 1)), (2, .int (nI o)), (3, .int (nI k)), (4, .int (x))] := hl
  refine lv_iload_n hx hb dX4_can_0 rfl (lv_at hl 1 rfl) ?_
  refine lv_tableIn (off := 68) (tgt := 69) hx hb dX4_can_1 (by decide +kernel) (by decide +kernel) (by decide +kernel) (by decide) ?_
  refine lv_aload_n hx hb dX4_can_69 rfl (lv_at hl 0 rfl) ?_
  refine lv_iload_n hx hb dX4_can_70 rfl (lv_at hl 2 rfl) ?_
  refine lv_iconst (v := nI 4) hx hb dX4_can_71 (by decide) ?_
  refine lv_iload_n hx hb dX4_can_72 rfl (lv_at hl 3 rfl) ?_
  refine pn_iadd hx hb dX4_can_73 ?_
  refine pm_callI (n := 2) [] hx hb hml hown hts hA hK (m_of l D h cI f g o (4 + k) (by first | assumption | omega | rfl) (by first | assumption | omega | rfl)) (lw_V q2443 q2445 qs48 q122 q2446) ⟨rfl, rfl⟩ (by decide +kernel) ⟨Nat.le_of_ble_eq_true rfl, Nat.le_of_ble_eq_true rfl⟩ hP hD hS rfl hl.1 rfl (Nat.le_of_ble_eq_true rfl) ⟨Nat.zero_le _, Nat.zero_le _⟩ dX4_can_74 (fun H locs hP hD hS => ?_)
  refine lv_iload hx hb dX4_can_77 (lv_at hl 4 rfl) ?_
  refine lv_icmp_lt (tgt := 86) hx hb dX4_can_79 (by decide) (fun c1 => ?_) (fun c1 => ?_)
  · refine lv_iconst (v := nI 0) hx hb dX4_can_86 (by decide) ?_
    exact pm_retZ hx hb hlk hr hq hP hD hS dX4_can_87 (by simp [pc_b, pc_can0, pc_can1, pc_can5, -Nat.zero_add, c1]) rfl
  · refine lv_iconst (v := nI 1) hx hb dX4_can_82 (by decide) ?_
    refine lv_goto (tgt := 87) hx hb dX4_can_83 (by decide) ?_
    exact pm_retZ hx hb hlk hr hq hP hD hS dX4_can_87 (by simp [pc_b, pc_can0, pc_can1, pc_can5, -Nat.zero_add, c1]) rfl

set_option maxHeartbeats 4000000 in
theorem m_can2 (l : Launch) (D : va_G) (h : Nat → Nat) (cI : ClassId) (f : Nat → Int32) (g : Nat → Nat → Int32) (K : Nat) (N : Nat) (o : Nat) (y8 : Int32) (z8 : Int32) (hN : g 1 1 = nI N) (hN8 : N ≤ 8) (hK0 : g 1 0 = nI K) (hK4 : K ≤ 4) (ho : o < N) : pm_C l yX4_can (ws_ yX4_can cX4_can 5 (some .boolean)) ({ frames := 0, cells := 0, slots := 0, locals := 0 } : Room) D h cI [.ref (h 0), .int (nI 2), .int (nI o), .int (y8), .int (z8)] f g (some (.int (pc_b (true)))) f g := by
  refine pm_enter (cc := cX4_can) (maxL := 5) (ret := (some .boolean)) (by decide) (Nat.le_of_ble_eq_true rfl) ?_
  intro p e s m below meth c A Qc ls hx hb hml hown hts hlk hA hK hP hD hS hr hq hl
  have hl : lv_has ls 5 [(0, .ref (h 0)), (1, .int (nI 2)), (2, .int (nI o)), (3, .int (y8)), (4, .int (z8))] := hl
  refine lv_iload_n hx hb dX4_can_0 rfl (lv_at hl 1 rfl) ?_
  refine lv_tableIn (off := 131) (tgt := 132) hx hb dX4_can_1 (by decide +kernel) (by decide +kernel) (by decide +kernel) (by decide) ?_
  refine lv_iconst (v := nI 1) hx hb dX4_can_132 (by decide) ?_
  exact pm_retZ hx hb hlk hr hq hP hD hS dX4_can_133 (by simp [pc_b, pc_can0, pc_can1, pc_can5, -Nat.zero_add]) rfl

set_option maxHeartbeats 4000000 in
theorem m_can3 (l : Launch) (D : va_G) (h : Nat → Nat) (cI : ClassId) (f : Nat → Int32) (g : Nat → Nat → Int32) (K : Nat) (N : Nat) (o : Nat) (y8 : Int32) (z8 : Int32) (hN : g 1 1 = nI N) (hN8 : N ≤ 8) (hK0 : g 1 0 = nI K) (hK4 : K ≤ 4) (ho : o < N) : pm_C l yX4_can (ws_ yX4_can cX4_can 5 (some .boolean)) ({ frames := 2, cells := 0, slots := 0, locals := 43 } : Room) D h cI [.ref (h 0), .int (nI 3), .int (nI o), .int (y8), .int (z8)] f g (some (.int (pc_b (pc_wait (g 1) o)))) f g := by
  refine pm_enter (cc := cX4_can) (maxL := 5) (ret := (some .boolean)) (by decide) (Nat.le_of_ble_eq_true rfl) ?_
  intro p e s m below meth c A Qc ls hx hb hml hown hts hlk hA hK hP hD hS hr hq hl
  have hl : lv_has ls 5 [(0, .ref (h 0)), (1, .int (nI 3)), (2, .int (nI o)), (3, .int (y8)), (4, .int (z8))] := hl
  refine lv_iload_n hx hb dX4_can_0 rfl (lv_at hl 1 rfl) ?_
  refine lv_tableIn (off := 87) (tgt := 88) hx hb dX4_can_1 (by decide +kernel) (by decide +kernel) (by decide +kernel) (by decide) ?_
  refine lv_aload_n hx hb dX4_can_88 rfl (lv_at hl 0 rfl) ?_
  refine lv_iload_n hx hb dX4_can_89 rfl (lv_at hl 2 rfl) ?_
  refine pm_callI (n := 1) [] hx hb hml hown hts hA hK (m_isWaiting l D h cI f g o (by first | assumption | omega | rfl)) (lw_V q2653 q2655 qs64 q122 q2656) ⟨rfl, rfl⟩ (by decide +kernel) ⟨Nat.le_of_ble_eq_true rfl, Nat.le_of_ble_eq_true rfl⟩ hP hD hS rfl hl.1 rfl (Nat.le_of_ble_eq_true rfl) ⟨Nat.zero_le _, Nat.zero_le _⟩ dX4_can_90 (fun H locs hP hD hS => ?_)
  exact pm_retZ hx hb hlk hr hq hP hD hS dX4_can_93 rfl rfl

set_option maxHeartbeats 4000000 in
theorem m_can4 (l : Launch) (D : va_G) (h : Nat → Nat) (cI : ClassId) (f : Nat → Int32) (g : Nat → Nat → Int32) (K : Nat) (N : Nat) (o : Nat) (k : Nat) (x : Int32) (hN : g 1 1 = nI N) (hN8 : N ≤ 8) (hK0 : g 1 0 = nI K) (hK4 : K ≤ 4) (ho : o < N) (hk : k < K) : pm_C l yX4_can (ws_ yX4_can cX4_can 5 (some .boolean)) ({ frames := 10, cells := 0, slots := 0, locals := 228 } : Room) D h cI [.ref (h 0), .int (nI 4), .int (nI o), .int (nI k), .int (x)] f g (some (.int (pc_b (pc_canClaim (g 1) K N o k x)))) f g := by
  refine pm_enter (cc := cX4_can) (maxL := 5) (ret := (some .boolean)) (by decide) (Nat.le_of_ble_eq_true rfl) ?_
  intro p e s m below meth c A Qc ls hx hb hml hown hts hlk hA hK hP hD hS hr hq hl
  have hl : lv_has ls 5 [(0, .ref (h 0)), (1, .int (nI 4)), (2, .int (nI o)), (3, .int (nI k)), (4, .int (x))] := hl
  refine lv_iload_n hx hb dX4_can_0 rfl (lv_at hl 1 rfl) ?_
  refine lv_tableIn (off := 93) (tgt := 94) hx hb dX4_can_1 (by decide +kernel) (by decide +kernel) (by decide +kernel) (by decide) ?_
  refine lv_aload_n hx hb dX4_can_94 rfl (lv_at hl 0 rfl) ?_
  refine lv_iload_n hx hb dX4_can_95 rfl (lv_at hl 2 rfl) ?_
  refine lv_iload_n hx hb dX4_can_96 rfl (lv_at hl 3 rfl) ?_
  refine lv_iload hx hb dX4_can_97 (lv_at hl 4 rfl) ?_
  refine pm_callI (n := 3) [] hx hb hml hown hts hA hK (m_canClaim l D h cI f g K N o k x (by first | assumption | omega | rfl) (by first | assumption | omega | rfl) (by first | assumption | omega | rfl) (by first | assumption | omega | rfl) (by first | assumption | omega | rfl) (by first | assumption | omega | rfl)) (lw_V q2815 q2817 qs83 q122 q2818) ⟨rfl, rfl⟩ (by decide +kernel) ⟨Nat.le_of_ble_eq_true rfl, Nat.le_of_ble_eq_true rfl⟩ hP hD hS rfl hl.1 rfl (Nat.le_of_ble_eq_true rfl) ⟨Nat.zero_le _, Nat.zero_le _⟩ dX4_can_99 (fun H locs hP hD hS => ?_)
  exact pm_retZ hx hb hlk hr hq hP hD hS dX4_can_102 rfl rfl

set_option maxHeartbeats 4000000 in
theorem m_can5 (l : Launch) (D : va_G) (h : Nat → Nat) (cI : ClassId) (f : Nat → Int32) (g : Nat → Nat → Int32) (K : Nat) (N : Nat) (k : Nat) (x : Int32) (z8 : Int32) (hN : g 1 1 = nI N) (hN8 : N ≤ 8) (hK0 : g 1 0 = nI K) (hK4 : K ≤ 4) (hk : k < K) : pm_C l yX4_can (ws_ yX4_can cX4_can 5 (some .boolean)) ({ frames := 0, cells := 0, slots := 0, locals := 0 } : Room) D h cI [.ref (h 0), .int (nI 5), .int (nI k), .int (x), .int (z8)] f g (some (.int (pc_b (pc_can5 (g 1) k x)))) f g := by
  refine pm_enter (cc := cX4_can) (maxL := 5) (ret := (some .boolean)) (by decide) (Nat.le_of_ble_eq_true rfl) ?_
  intro p e s m below meth c A Qc ls hx hb hml hown hts hlk hA hK hP hD hS hr hq hl
  have hl : lv_has ls 5 [(0, .ref (h 0)), (1, .int (nI 5)), (2, .int (nI k)), (3, .int (x)), (4, .int (z8))] := hl
  refine lv_iload_n hx hb dX4_can_0 rfl (lv_at hl 1 rfl) ?_
  refine lv_tableIn (off := 102) (tgt := 103) hx hb dX4_can_1 (by decide +kernel) (by decide +kernel) (by decide +kernel) (by decide) ?_
  refine lv_aload_n hx hb dX4_can_103 rfl (lv_at hl 0 rfl) ?_
  refine va_get (D := D) (ci := 0) (v := .ref (h 1)) (C := RX4) (T := TX4) (N := 22) hx hb hts in_X4 hown hK hP 0 rfl rfl 1 (by decide) (hts _ q2483) (fun _ h9 => h9) rfl dX4_can_104 ?_
  refine lv_bipush (v := nI 9) hx hb dX4_can_107 (by decide) ?_
  refine lv_iload_n hx hb dX4_can_109 rfl (lv_at hl 2 rfl) ?_
  refine pn_iadd hx hb dX4_can_110 ?_
  refine pn_iald (e9 := 9 + k) (f := g 1) hx hb hK hP 1 0 rfl rfl (by omega) (by decide) dX4_can_111 ?_
  refine lv_iload_n hx hb dX4_can_112 rfl (lv_at hl 3 rfl) ?_
  refine lv_iadd hx hb dX4_can_113 ?_
  refine lv_bipush (v := nI 40) hx hb dX4_can_114 (by decide) ?_
  refine lv_icmp_gt (tgt := 123) hx hb dX4_can_116 (by decide) (fun c1 => ?_) (fun c1 => ?_)
  · refine lv_iconst (v := nI 0) hx hb dX4_can_123 (by decide) ?_
    exact pm_retZ hx hb hlk hr hq hP hD hS dX4_can_124 (by simp [pc_b, pc_can0, pc_can1, pc_can5, -Nat.zero_add, c1]) rfl
  · refine lv_iconst (v := nI 1) hx hb dX4_can_119 (by decide) ?_
    refine lv_goto (tgt := 124) hx hb dX4_can_120 (by decide) ?_
    exact pm_retZ hx hb hlk hr hq hP hD hS dX4_can_124 (by simp [pc_b, pc_can0, pc_can1, pc_can5, -Nat.zero_add, c1]) rfl

set_option maxHeartbeats 4000000 in
theorem m_can6 (l : Launch) (D : va_G) (h : Nat → Nat) (cI : ClassId) (f : Nat → Int32) (g : Nat → Nat → Int32) (K : Nat) (N : Nat) (k : Nat) (x : Int32) (z8 : Int32) (hN : g 1 1 = nI N) (hN8 : N ≤ 8) (hK0 : g 1 0 = nI K) (hK4 : K ≤ 4) (hk : k < K) : pm_C l yX4_can (ws_ yX4_can cX4_can 5 (some .boolean)) ({ frames := 9, cells := 0, slots := 0, locals := 202 } : Room) D h cI [.ref (h 0), .int (nI 6), .int (nI k), .int (x), .int (z8)] f g (some (.int (pc_b (pc_canRetire (g 1) K N k x)))) f g := by
  refine pm_enter (cc := cX4_can) (maxL := 5) (ret := (some .boolean)) (by decide) (Nat.le_of_ble_eq_true rfl) ?_
  intro p e s m below meth c A Qc ls hx hb hml hown hts hlk hA hK hP hD hS hr hq hl
  have hl : lv_has ls 5 [(0, .ref (h 0)), (1, .int (nI 6)), (2, .int (nI k)), (3, .int (x)), (4, .int (z8))] := hl
  refine lv_iload_n hx hb dX4_can_0 rfl (lv_at hl 1 rfl) ?_
  refine lv_tableIn (off := 124) (tgt := 125) hx hb dX4_can_1 (by decide +kernel) (by decide +kernel) (by decide +kernel) (by decide) ?_
  refine lv_aload_n hx hb dX4_can_125 rfl (lv_at hl 0 rfl) ?_
  refine lv_iload_n hx hb dX4_can_126 rfl (lv_at hl 2 rfl) ?_
  refine lv_iload_n hx hb dX4_can_127 rfl (lv_at hl 3 rfl) ?_
  refine pm_callI (n := 2) [] hx hb hml hown hts hA hK (m_canRetire l D h cI f g K N k x (by first | assumption | omega | rfl) (by first | assumption | omega | rfl) (by first | assumption | omega | rfl) (by first | assumption | omega | rfl) (by first | assumption | omega | rfl)) (lw_V q2736 q2738 qs72 q122 q2739) ⟨rfl, rfl⟩ (by decide +kernel) ⟨Nat.le_of_ble_eq_true rfl, Nat.le_of_ble_eq_true rfl⟩ hP hD hS rfl hl.1 rfl (Nat.le_of_ble_eq_true rfl) ⟨Nat.zero_le _, Nat.zero_le _⟩ dX4_can_128 (fun H locs hP hD hS => ?_)
  exact pm_retZ hx hb hlk hr hq hP hD hS dX4_can_131 rfl rfl

set_option maxHeartbeats 4000000 in
theorem m_does0 (l : Launch) (D : va_G) (h : Nat → Nat) (cI : ClassId) (f : Nat → Int32) (g : Nat → Nat → Int32) (B : Nat) (K : Nat) (N : Nat) (wl : List Nat) (o : Nat) (k : Nat) (x : Int32) (hI : pc_inv B (g 1) K N wl) (ho : o < N) (hk : k < K) : pm_C l yX4_does (ws_ yX4_does cX4_does 5 (some .int)) ({ frames := 11, cells := 0, slots := 0, locals := 249 } : Room) D h cI [.ref (h 0), .int (nI 0), .int (nI o), .int (nI k), .int (x)] f g (some (.int (pc_reqv (g 1) K N o k x))) f (va_up g 1 (pc_reqr (g 1) K N o k x)) := by
  refine pm_enter (cc := cX4_does) (maxL := 5) (ret := (some .int)) (by decide) (Nat.le_of_ble_eq_true rfl) ?_
  intro p e s m below meth c A Qc ls hx hb hml hown hts hlk hA hK hP hD hS hr hq hl
  have hl : lv_has ls 5 [(0, .ref (h 0)), (1, .int (nI 0)), (2, .int (nI o)), (3, .int (nI k)), (4, .int (x))] := hl
  have hN := hI.N0
  have hK0 := hI.K0
  have hN8 := hI.N8
  have hK4 := hI.K4
  have hN1 := hI.N1
  have hK1 := hI.K1
  have hwt := hI.waiting
  have hln := hI.len
  refine lv_iload_n hx hb dX4_does_0 rfl (lv_at hl 1 rfl) ?_
  refine lv_tableIn (off := 39) (tgt := 40) hx hb dX4_does_1 (by decide +kernel) (by decide +kernel) (by decide +kernel) (by decide) ?_
  refine lv_aload_n hx hb dX4_does_40 rfl (lv_at hl 0 rfl) ?_
  refine lv_iload_n hx hb dX4_does_41 rfl (lv_at hl 2 rfl) ?_
  refine lv_iload_n hx hb dX4_does_42 rfl (lv_at hl 3 rfl) ?_
  refine lv_iload hx hb dX4_does_43 (lv_at hl 4 rfl) ?_
  refine pm_callI (n := 3) [] hx hb hml hown hts hA hK (m_requests l D h cI f g B K N wl o k x (by first | assumption | omega | rfl) (by first | assumption | omega | rfl) (by first | assumption | omega | rfl)) (lw_V q2831 q2833 qs87 q122 q2834) ⟨rfl, rfl⟩ (by decide +kernel) ⟨Nat.le_of_ble_eq_true rfl, Nat.le_of_ble_eq_true rfl⟩ hP hD hS rfl hl.1 rfl (Nat.le_of_ble_eq_true rfl) ⟨Nat.zero_le _, Nat.zero_le _⟩ dX4_does_45 (fun H locs hP hD hS => ?_)
  have hP : va_P D pc_Cl (pm_W h cI f (va_up g 1 (pc_reqr (g 1) K N o k x))) H := hP
  have hD : va_D A (pm_W h cI f (va_up g 1 (pc_reqr (g 1) K N o k x))) := hD
  exact pm_retI hx hb hlk hr hq hP hD hS dX4_does_48 rfl rfl

set_option maxHeartbeats 4000000 in
theorem m_does1 (l : Launch) (D : va_G) (h : Nat → Nat) (cI : ClassId) (f : Nat → Int32) (g : Nat → Nat → Int32) (B : Nat) (K : Nat) (N : Nat) (wl : List Nat) (o : Nat) (k : Nat) (x : Int32) (hI : pc_inv B (g 1) K N wl) (ho : o < N) (hk : k < K) : pm_C l yX4_does (ws_ yX4_does cX4_does 5 (some .int)) ({ frames := 13, cells := 0, slots := 0, locals := 295 } : Room) D h cI [.ref (h 0), .int (nI 1), .int (nI o), .int (nI k), .int (x)] f g (some (.int (nI (pc_serve (pc_rel (g 1) o k x) K N wl).1))) f (va_up g 1 ((pc_serve (pc_rel (g 1) o k x) K N wl).2.1)) := by
  refine pm_enter (cc := cX4_does) (maxL := 5) (ret := (some .int)) (by decide) (Nat.le_of_ble_eq_true rfl) ?_
  intro p e s m below meth c A Qc ls hx hb hml hown hts hlk hA hK hP hD hS hr hq hl
  have hl : lv_has ls 5 [(0, .ref (h 0)), (1, .int (nI 1)), (2, .int (nI o)), (3, .int (nI k)), (4, .int (x))] := hl
  have hN := hI.N0
  have hK0 := hI.K0
  have hN8 := hI.N8
  have hK4 := hI.K4
  have hN1 := hI.N1
  have hK1 := hI.K1
  have hwt := hI.waiting
  have hln := hI.len
  refine lv_iload_n hx hb dX4_does_0 rfl (lv_at hl 1 rfl) ?_
  refine lv_tableIn (off := 48) (tgt := 49) hx hb dX4_does_1 (by decide +kernel) (by decide +kernel) (by decide +kernel) (by decide) ?_
  refine lv_aload_n hx hb dX4_does_49 rfl (lv_at hl 0 rfl) ?_
  refine lv_iload_n hx hb dX4_does_50 rfl (lv_at hl 2 rfl) ?_
  refine lv_iload_n hx hb dX4_does_51 rfl (lv_at hl 3 rfl) ?_
  refine lv_iload hx hb dX4_does_52 (lv_at hl 4 rfl) ?_
  refine pm_callI (n := 3) [] hx hb hml hown hts hA hK (m_releases l D h cI f g B K N wl o k x (by first | assumption | omega | rfl) (by first | assumption | omega | rfl) (by first | assumption | omega | rfl)) (lw_V q2835 q2837 qs88 q122 q2838) ⟨rfl, rfl⟩ (by decide +kernel) ⟨Nat.le_of_ble_eq_true rfl, Nat.le_of_ble_eq_true rfl⟩ hP hD hS rfl hl.1 rfl (Nat.le_of_ble_eq_true rfl) ⟨Nat.zero_le _, Nat.zero_le _⟩ dX4_does_54 (fun H locs hP hD hS => ?_)
  have hP : va_P D pc_Cl (pm_W h cI f (va_up g 1 (pc_serve (pc_rel (g 1) o k x) K N wl).2.1)) H := hP
  have hD : va_D A (pm_W h cI f (va_up g 1 (pc_serve (pc_rel (g 1) o k x) K N wl).2.1)) := hD
  exact pm_retI hx hb hlk hr hq hP hD hS dX4_does_57 rfl (by rfl)

set_option maxHeartbeats 4000000 in
theorem m_does2 (l : Launch) (D : va_G) (h : Nat → Nat) (cI : ClassId) (f : Nat → Int32) (g : Nat → Nat → Int32) (B : Nat) (K : Nat) (N : Nat) (wl : List Nat) (o : Nat) (y8 : Int32) (z8 : Int32) (hI : pc_inv B (g 1) K N wl) (ho : o < N) : pm_C l yX4_does (ws_ yX4_does cX4_does 5 (some .int)) ({ frames := 13, cells := 0, slots := 0, locals := 294 } : Room) D h cI [.ref (h 0), .int (nI 2), .int (nI o), .int (y8), .int (z8)] f g (some (.int (nI (pc_serve (pc_fin (g 1) o K) K N (wl.erase o)).1))) f (va_up g 1 ((pc_serve (pc_fin (g 1) o K) K N (wl.erase o)).2.1)) := by
  refine pm_enter (cc := cX4_does) (maxL := 5) (ret := (some .int)) (by decide) (Nat.le_of_ble_eq_true rfl) ?_
  intro p e s m below meth c A Qc ls hx hb hml hown hts hlk hA hK hP hD hS hr hq hl
  have hl : lv_has ls 5 [(0, .ref (h 0)), (1, .int (nI 2)), (2, .int (nI o)), (3, .int (y8)), (4, .int (z8))] := hl
  have hN := hI.N0
  have hK0 := hI.K0
  have hN8 := hI.N8
  have hK4 := hI.K4
  have hN1 := hI.N1
  have hK1 := hI.K1
  have hwt := hI.waiting
  have hln := hI.len
  refine lv_iload_n hx hb dX4_does_0 rfl (lv_at hl 1 rfl) ?_
  refine lv_tableIn (off := 57) (tgt := 58) hx hb dX4_does_1 (by decide +kernel) (by decide +kernel) (by decide +kernel) (by decide) ?_
  refine lv_aload_n hx hb dX4_does_58 rfl (lv_at hl 0 rfl) ?_
  refine lv_iload_n hx hb dX4_does_59 rfl (lv_at hl 2 rfl) ?_
  refine pm_callI (n := 1) [] hx hb hml hown hts hA hK (m_finishes l D h cI f g B K N wl o (by first | assumption | omega | rfl) (by first | assumption | omega | rfl)) (lw_V q2748 q2750 qs74 q122 q2751) ⟨rfl, rfl⟩ (by decide +kernel) ⟨Nat.le_of_ble_eq_true rfl, Nat.le_of_ble_eq_true rfl⟩ hP hD hS rfl hl.1 rfl (Nat.le_of_ble_eq_true rfl) ⟨Nat.zero_le _, Nat.zero_le _⟩ dX4_does_60 (fun H locs hP hD hS => ?_)
  have hP : va_P D pc_Cl (pm_W h cI f (va_up g 1 (pc_serve (pc_fin (g 1) o K) K N (wl.erase o)).2.1)) H := hP
  have hD : va_D A (pm_W h cI f (va_up g 1 (pc_serve (pc_fin (g 1) o K) K N (wl.erase o)).2.1)) := hD
  exact pm_retI hx hb hlk hr hq hP hD hS dX4_does_63 rfl (by rfl)

set_option maxHeartbeats 4000000 in
theorem m_does3 (l : Launch) (D : va_G) (h : Nat → Nat) (cI : ClassId) (f : Nat → Int32) (g : Nat → Nat → Int32) (B : Nat) (K : Nat) (N : Nat) (wl : List Nat) (o : Nat) (y8 : Int32) (z8 : Int32) (hI : pc_inv B (g 1) K N wl) (ho : o < N) : pm_C l yX4_does (ws_ yX4_does cX4_does 5 (some .int)) ({ frames := 13, cells := 0, slots := 0, locals := 294 } : Room) D h cI [.ref (h 0), .int (nI 3), .int (nI o), .int (y8), .int (z8)] f g (some (.int (nI (pc_waiting (pc_serve (pc_forgets (g 1) o) K N (wl.erase o)).2.1 N)))) f (va_up g 1 ((pc_serve (pc_forgets (g 1) o) K N (wl.erase o)).2.1)) := by
  refine pm_enter (cc := cX4_does) (maxL := 5) (ret := (some .int)) (by decide) (Nat.le_of_ble_eq_true rfl) ?_
  intro p e s m below meth c A Qc ls hx hb hml hown hts hlk hA hK hP hD hS hr hq hl
  have hl : lv_has ls 5 [(0, .ref (h 0)), (1, .int (nI 3)), (2, .int (nI o)), (3, .int (y8)), (4, .int (z8))] := hl
  have hN := hI.N0
  have hK0 := hI.K0
  have hN8 := hI.N8
  have hK4 := hI.K4
  have hN1 := hI.N1
  have hK1 := hI.K1
  have hwt := hI.waiting
  have hln := hI.len
  refine lv_iload_n hx hb dX4_does_0 rfl (lv_at hl 1 rfl) ?_
  refine lv_tableIn (off := 63) (tgt := 64) hx hb dX4_does_1 (by decide +kernel) (by decide +kernel) (by decide +kernel) (by decide) ?_
  refine lv_aload_n hx hb dX4_does_64 rfl (lv_at hl 0 rfl) ?_
  refine lv_iload_n hx hb dX4_does_65 rfl (lv_at hl 2 rfl) ?_
  refine pm_callI (n := 1) [] hx hb hml hown hts hA hK (m_withdraws l D h cI f g B K N wl o (by first | assumption | omega | rfl) (by first | assumption | omega | rfl)) (lw_V q2839 q2841 qs89 q122 q2842) ⟨rfl, rfl⟩ (by decide +kernel) ⟨Nat.le_of_ble_eq_true rfl, Nat.le_of_ble_eq_true rfl⟩ hP hD hS rfl hl.1 rfl (Nat.le_of_ble_eq_true rfl) ⟨Nat.zero_le _, Nat.zero_le _⟩ dX4_does_66 (fun H locs hP hD hS => ?_)
  have hP : va_P D pc_Cl (pm_W h cI f (va_up g 1 (pc_serve (pc_forgets (g 1) o) K N (wl.erase o)).2.1)) H := hP
  have hD : va_D A (pm_W h cI f (va_up g 1 (pc_serve (pc_forgets (g 1) o) K N (wl.erase o)).2.1)) := hD
  exact pm_retI hx hb hlk hr hq hP hD hS dX4_does_69 rfl (by rfl)

set_option maxHeartbeats 4000000 in
theorem m_does4 (l : Launch) (D : va_G) (h : Nat → Nat) (cI : ClassId) (f : Nat → Int32) (g : Nat → Nat → Int32) (B : Nat) (K : Nat) (N : Nat) (wl : List Nat) (o : Nat) (k : Nat) (x : Int32) (hI : pc_inv B (g 1) K N wl) (ho : o < N) (hk : k < K) : pm_C l yX4_does (ws_ yX4_does cX4_does 5 (some .int)) ({ frames := 13, cells := 0, slots := 0, locals := 297 } : Room) D h cI [.ref (h 0), .int (nI 4), .int (nI o), .int (nI k), .int (x)] f g (some (.int (pc_of (g 1) o (0 + k)))) f (va_up g 1 ((pc_serve (pc_lays (g 1) o (0 + k) x) K N wl).2.1)) := by
  refine pm_enter (cc := cX4_does) (maxL := 5) (ret := (some .int)) (by decide) (Nat.le_of_ble_eq_true rfl) ?_
  intro p e s m below meth c A Qc ls hx hb hml hown hts hlk hA hK hP hD hS hr hq hl
  have hl : lv_has ls 5 [(0, .ref (h 0)), (1, .int (nI 4)), (2, .int (nI o)), (3, .int (nI k)), (4, .int (x))] := hl
  have hN := hI.N0
  have hK0 := hI.K0
  have hN8 := hI.N8
  have hK4 := hI.K4
  have hN1 := hI.N1
  have hK1 := hI.K1
  have hwt := hI.waiting
  have hln := hI.len
  refine lv_iload_n hx hb dX4_does_0 rfl (lv_at hl 1 rfl) ?_
  refine lv_tableIn (off := 69) (tgt := 70) hx hb dX4_does_1 (by decide +kernel) (by decide +kernel) (by decide +kernel) (by decide) ?_
  refine lv_aload_n hx hb dX4_does_70 rfl (lv_at hl 0 rfl) ?_
  refine lv_iload_n hx hb dX4_does_71 rfl (lv_at hl 2 rfl) ?_
  refine lv_iload_n hx hb dX4_does_72 rfl (lv_at hl 3 rfl) ?_
  refine lv_iload hx hb dX4_does_73 (lv_at hl 4 rfl) ?_
  refine pm_callI (n := 3) [] hx hb hml hown hts hA hK (m_changes l D h cI f g B K N wl o k x (by first | assumption | omega | rfl) (by first | assumption | omega | rfl) (by first | assumption | omega | rfl)) (lw_V q2843 q2845 qs90 q122 q2846) ⟨rfl, rfl⟩ (by decide +kernel) ⟨Nat.le_of_ble_eq_true rfl, Nat.le_of_ble_eq_true rfl⟩ hP hD hS rfl hl.1 rfl (Nat.le_of_ble_eq_true rfl) ⟨Nat.zero_le _, Nat.zero_le _⟩ dX4_does_75 (fun H locs hP hD hS => ?_)
  have hP : va_P D pc_Cl (pm_W h cI f (va_up g 1 (pc_serve (pc_lays (g 1) o (0 + k) x) K N wl).2.1)) H := hP
  have hD : va_D A (pm_W h cI f (va_up g 1 (pc_serve (pc_lays (g 1) o (0 + k) x) K N wl).2.1)) := hD
  exact pm_retI hx hb hlk hr hq hP hD hS dX4_does_78 rfl (by rfl)

set_option maxHeartbeats 4000000 in
theorem m_does5 (l : Launch) (D : va_G) (h : Nat → Nat) (cI : ClassId) (f : Nat → Int32) (g : Nat → Nat → Int32) (B : Nat) (K : Nat) (N : Nat) (wl : List Nat) (k : Nat) (x : Int32) (z8 : Int32) (hI : pc_inv B (g 1) K N wl) (hk : k < K) : pm_C l yX4_does (ws_ yX4_does cX4_does 5 (some .int)) ({ frames := 12, cells := 0, slots := 0, locals := 272 } : Room) D h cI [.ref (h 0), .int (nI 5), .int (nI k), .int (x), .int (z8)] f g (some (.int (nI (pc_serve (pc_plus (g 1) (9 + k) x) K N wl).1))) f (va_up g 1 ((pc_serve (pc_plus (g 1) (9 + k) x) K N wl).2.1)) := by
  refine pm_enter (cc := cX4_does) (maxL := 5) (ret := (some .int)) (by decide) (Nat.le_of_ble_eq_true rfl) ?_
  intro p e s m below meth c A Qc ls hx hb hml hown hts hlk hA hK hP hD hS hr hq hl
  have hl : lv_has ls 5 [(0, .ref (h 0)), (1, .int (nI 5)), (2, .int (nI k)), (3, .int (x)), (4, .int (z8))] := hl
  have hN := hI.N0
  have hK0 := hI.K0
  have hN8 := hI.N8
  have hK4 := hI.K4
  have hN1 := hI.N1
  have hK1 := hI.K1
  have hwt := hI.waiting
  have hln := hI.len
  refine lv_iload_n hx hb dX4_does_0 rfl (lv_at hl 1 rfl) ?_
  refine lv_tableIn (off := 78) (tgt := 79) hx hb dX4_does_1 (by decide +kernel) (by decide +kernel) (by decide +kernel) (by decide) ?_
  refine lv_aload_n hx hb dX4_does_79 rfl (lv_at hl 0 rfl) ?_
  refine va_get (D := D) (ci := 0) (v := .ref (h 1)) (C := RX4) (T := TX4) (N := 22) hx hb hts in_X4 hown hK hP 0 rfl rfl 1 (by decide) (hts _ q2483) (fun _ h9 => h9) rfl dX4_does_80 ?_
  refine lv_bipush (v := nI 9) hx hb dX4_does_83 (by decide) ?_
  refine lv_iload_n hx hb dX4_does_85 rfl (lv_at hl 2 rfl) ?_
  refine pn_iadd hx hb dX4_does_86 ?_
  refine lv_dup2_11 hx hb dX4_does_87 rfl rfl ?_
  refine pn_iald (e9 := 9 + k) (f := g 1) hx hb hK hP 1 0 rfl rfl (by omega) (by decide) dX4_does_88 ?_
  refine lv_iload_n hx hb dX4_does_89 rfl (lv_at hl 3 rfl) ?_
  refine lv_iadd hx hb dX4_does_90 ?_
  refine pm_ast1 (g := g) (g2 := (va_up g 1 (upd (g 1) (9 + k) (((g 1) (9 + k)) + x)))) (X := g 1) (e9 := 9 + k) hx hb hK hP hD hS rfl (by omega) rfl dX4_does_91 (fun H locs hP hD hS => ?_)
  refine lv_aload_n hx hb dX4_does_92 rfl (lv_at hl 0 rfl) ?_
  refine pm_callI (n := 0) [] hx hb hml hown hts hA hK (m_serves l D h cI f (va_up g 1 (upd (g 1) (9 + k) (((g 1) (9 + k)) + x))) B K N wl (hI.plus _ (by omega) (by omega))) (lw_V q2756 q2758 qs76 q122 q2759) ⟨rfl, rfl⟩ (by decide +kernel) ⟨Nat.le_of_ble_eq_true rfl, Nat.le_of_ble_eq_true rfl⟩ hP hD hS rfl hl.1 rfl (Nat.le_of_ble_eq_true rfl) ⟨Nat.zero_le _, Nat.zero_le _⟩ dX4_does_93 (fun H locs hP hD hS => ?_)
  have hP : va_P D pc_Cl (pm_W h cI f (va_up g 1 (pc_serve (upd (g 1) (9 + k) (((g 1) (9 + k)) + x)) K N wl).2.1)) H := hP
  have hD : va_D A (pm_W h cI f (va_up g 1 (pc_serve (upd (g 1) (9 + k) (((g 1) (9 + k)) + x)) K N wl).2.1)) := hD
  refine pn_top (y := nI (pc_serve (upd (g 1) (9 + k) (((g 1) (9 + k)) + x)) K N wl).1) rfl ?_
  exact pm_retI hx hb hlk hr hq hP hD hS dX4_does_96 (by rfl) (by rfl)

set_option maxHeartbeats 4000000 in
theorem m_does6 (l : Launch) (D : va_G) (h : Nat → Nat) (cI : ClassId) (f : Nat → Int32) (g : Nat → Nat → Int32) (B : Nat) (K : Nat) (N : Nat) (wl : List Nat) (k : Nat) (x : Int32) (z8 : Int32) (hI : pc_inv B (g 1) K N wl) (hk : k < K) : pm_C l yX4_does (ws_ yX4_does cX4_does 5 (some .int)) ({ frames := 0, cells := 0, slots := 0, locals := 0 } : Room) D h cI [.ref (h 0), .int (nI 6), .int (nI k), .int (x), .int (z8)] f g (some (.int ((pc_retires (g 1) k x) (9 + k)))) f (va_up g 1 (pc_retires (g 1) k x)) := by
  refine pm_enter (cc := cX4_does) (maxL := 5) (ret := (some .int)) (by decide) (Nat.le_of_ble_eq_true rfl) ?_
  intro p e s m below meth c A Qc ls hx hb hml hown hts hlk hA hK hP hD hS hr hq hl
  have hl : lv_has ls 5 [(0, .ref (h 0)), (1, .int (nI 6)), (2, .int (nI k)), (3, .int (x)), (4, .int (z8))] := hl
  have hN := hI.N0
  have hK0 := hI.K0
  have hN8 := hI.N8
  have hK4 := hI.K4
  have hN1 := hI.N1
  have hK1 := hI.K1
  have hwt := hI.waiting
  have hln := hI.len
  refine lv_iload_n hx hb dX4_does_0 rfl (lv_at hl 1 rfl) ?_
  refine lv_tableOut (tgt := 97) hx hb dX4_does_1 (by decide +kernel) (by decide) ?_
  refine lv_aload_n hx hb dX4_does_97 rfl (lv_at hl 0 rfl) ?_
  refine va_get (D := D) (ci := 0) (v := .ref (h 1)) (C := RX4) (T := TX4) (N := 22) hx hb hts in_X4 hown hK hP 0 rfl rfl 1 (by decide) (hts _ q2483) (fun _ h9 => h9) rfl dX4_does_98 ?_
  refine lv_bipush (v := nI 9) hx hb dX4_does_101 (by decide) ?_
  refine lv_iload_n hx hb dX4_does_103 rfl (lv_at hl 2 rfl) ?_
  refine pn_iadd hx hb dX4_does_104 ?_
  refine lv_dup2_11 hx hb dX4_does_105 rfl rfl ?_
  refine pn_iald (e9 := 9 + k) (f := g 1) hx hb hK hP 1 0 rfl rfl (by omega) (by decide) dX4_does_106 ?_
  refine lv_iload_n hx hb dX4_does_107 rfl (lv_at hl 3 rfl) ?_
  refine lv_isub hx hb dX4_does_108 ?_
  refine pm_ast1 (g := g) (g2 := (va_up g 1 (upd (g 1) (9 + k) (((g 1) (9 + k)) - x)))) (X := g 1) (e9 := 9 + k) hx hb hK hP hD hS rfl (by omega) rfl dX4_does_109 (fun H locs hP hD hS => ?_)
  refine lv_aload_n hx hb dX4_does_110 rfl (lv_at hl 0 rfl) ?_
  refine va_get (D := D) (ci := 0) (v := .ref (h 1)) (C := RX4) (T := TX4) (N := 22) hx hb hts in_X4 hown hK hP 0 rfl rfl 1 (by decide) (hts _ q2483) (fun _ h9 => h9) rfl dX4_does_111 ?_
  refine lv_bipush (v := nI 9) hx hb dX4_does_114 (by decide) ?_
  refine lv_iload_n hx hb dX4_does_116 rfl (lv_at hl 2 rfl) ?_
  refine pn_iadd hx hb dX4_does_117 ?_
  refine pn_iald (e9 := 9 + k) (f := (upd (g 1) (9 + k) (((g 1) (9 + k)) - x))) hx hb hK hP 1 0 rfl rfl (by omega) (by decide) dX4_does_118 ?_
  exact pm_retI hx hb hlk hr hq hP hD hS dX4_does_119 (by rfl) (by rfl)

set_option maxHeartbeats 4000000 in
theorem m_operates0_no (l : Launch) (D : va_G) (h : Nat → Nat) (cI : ClassId) (f : Nat → Int32) (g : Nat → Nat → Int32) (K : Nat) (N : Nat) (n8 : Nat) (o : Nat) (k : Nat) (x : Int32) (hN : g 1 1 = nI N) (hN8 : N ≤ 8) (hK0 : g 1 0 = nI K) (hK4 : K ≤ 4) (ho : o < N) (hk : k < K) (hf0 : f 0 = nI 0) (hn8 : 0 < n8) (hn9 : n8 < 10) (hcan : pc_can0 (g 1) o k x = false) : pm_C l yX4_operates (ws_ yX4_operates cX4_operates 6 (some .int)) ({ frames := 3, cells := 0, slots := 0, locals := 68 } : Room) D h cI [.ref (h 0), .int (nI 0), .int (nI o), .int (nI k), .int (x), .int (nI n8)] f g (some (.int (nI 0))) (va_up f 0 (nI n8)) g := by
  refine pm_enter (cc := cX4_operates) (maxL := 6) (ret := (some .int)) (by decide) (Nat.le_of_ble_eq_true rfl) ?_
  intro p e s m below meth c A Qc ls hx hb hml hown hts hlk hA hK hP hD hS hr hq hl
  have hl : lv_has ls 6 [(0, .ref (h 0)), (1, .int (nI 0)), (2, .int (nI o)), (3, .int (nI k)), (4, .int (x)), (5, .int (nI n8))] := hl
  refine lv_aload_n hx hb dX4_operates_0 rfl (lv_at hl 0 rfl) ?_
  refine lv_aload_n hx hb dX4_operates_1 rfl (lv_at hl 0 rfl) ?_
  refine lv_iload_n hx hb dX4_operates_2 rfl (lv_at hl 1 rfl) ?_
  refine lv_iload_n hx hb dX4_operates_3 rfl (lv_at hl 2 rfl) ?_
  refine lv_iload_n hx hb dX4_operates_4 rfl (lv_at hl 3 rfl) ?_
  refine lv_iload hx hb dX4_operates_5 (lv_at hl 4 rfl) ?_
  refine pm_callI (n := 4) [.ref (h 0)] hx hb hml hown hts hA hK (m_can0 l D h cI f g K N o k x (by first | assumption | omega | rfl) (by first | assumption | omega | rfl) (by first | assumption | omega | rfl) (by first | assumption | omega | rfl) (by first | assumption | omega | rfl) (by first | assumption | omega | rfl)) (lw_V q2811 q2813 qs82 q122 q2814) ⟨rfl, rfl⟩ (by decide +kernel) ⟨Nat.le_of_ble_eq_true rfl, Nat.le_of_ble_eq_true rfl⟩ hP hD hS rfl hl.1 rfl (Nat.le_of_ble_eq_true rfl) ⟨Nat.zero_le _, Nat.zero_le _⟩ dX4_operates_7 (fun H locs hP hD hS => ?_)
  refine pn_top (y := pc_b false) (congrArg pc_b hcan) ?_
  refine lv_iload hx hb dX4_operates_10 (lv_at hl 5 rfl) ?_
  refine pm_callI (n := 2) [] hx hb hml hown hts hA hK (m_fails_no l D h cI f g n8 (by first | assumption | omega | rfl) (by first | assumption | omega | rfl) (by first | assumption | omega | rfl)) (lw_V q2366 q2368 qs32 q122 q2369) ⟨rfl, rfl⟩ (by decide +kernel) ⟨Nat.le_of_ble_eq_true rfl, Nat.le_of_ble_eq_true rfl⟩ hP hD hS rfl hl.1 rfl (Nat.le_of_ble_eq_true rfl) ⟨Nat.zero_le _, Nat.zero_le _⟩ dX4_operates_12 (fun H locs hP hD hS => ?_)
  have hP : va_P D pc_Cl (pm_W h cI (va_up f 0 (nI n8)) g) H := hP
  have hD : va_D A (pm_W h cI (va_up f 0 (nI n8)) g) := hD
  refine pb_if_eq (tgt := 20) hx hb dX4_operates_15 (by decide) (fun c1 => ?_) (fun c1 => ?_)
  · exfalso; cases c1
  · refine lv_iconst (v := nI 0) hx hb dX4_operates_18 (by decide) ?_
    exact pm_retI hx hb hlk hr hq hP hD hS dX4_operates_19 rfl rfl

set_option maxHeartbeats 4000000 in
theorem m_operates0_ok (l : Launch) (D : va_G) (h : Nat → Nat) (cI : ClassId) (f : Nat → Int32) (g : Nat → Nat → Int32) (B : Nat) (K : Nat) (N : Nat) (wl : List Nat) (n8 : Nat) (u : Nat) (o : Nat) (k : Nat) (x : Int32) (hI : pc_inv B (g 1) K N wl) (ho : o < N) (hk : k < K) (hf0 : f 0 = nI 0) (hu : f 6 = nI u) (hu8 : u ≤ 8) (hcan : pc_can0 (g 1) o k x = true) : pm_C l yX4_operates (ws_ yX4_operates cX4_operates 6 (some .int)) ({ frames := 12, cells := 0, slots := 0, locals := 273 } : Room) D h cI [.ref (h 0), .int (nI 0), .int (nI o), .int (nI k), .int (x), .int (nI n8)] f g (some (.int (pc_reqv (g 1) K N o k x))) (va_up f 6 (nI (pc_un u))) (va_up (va_up g 5 (pc_keep g u)) 1 (pc_reqr (g 1) K N o k x)) := by
  refine pm_enter (cc := cX4_operates) (maxL := 6) (ret := (some .int)) (by decide) (Nat.le_of_ble_eq_true rfl) ?_
  intro p e s m below meth c A Qc ls hx hb hml hown hts hlk hA hK hP hD hS hr hq hl
  have hl : lv_has ls 6 [(0, .ref (h 0)), (1, .int (nI 0)), (2, .int (nI o)), (3, .int (nI k)), (4, .int (x)), (5, .int (nI n8))] := hl
  have hN := hI.N0
  have hK0 := hI.K0
  have hN8 := hI.N8
  have hK4 := hI.K4
  have hN1 := hI.N1
  have hK1 := hI.K1
  have hwt := hI.waiting
  have hln := hI.len
  refine lv_aload_n hx hb dX4_operates_0 rfl (lv_at hl 0 rfl) ?_
  refine lv_aload_n hx hb dX4_operates_1 rfl (lv_at hl 0 rfl) ?_
  refine lv_iload_n hx hb dX4_operates_2 rfl (lv_at hl 1 rfl) ?_
  refine lv_iload_n hx hb dX4_operates_3 rfl (lv_at hl 2 rfl) ?_
  refine lv_iload_n hx hb dX4_operates_4 rfl (lv_at hl 3 rfl) ?_
  refine lv_iload hx hb dX4_operates_5 (lv_at hl 4 rfl) ?_
  refine pm_callI (n := 4) [.ref (h 0)] hx hb hml hown hts hA hK (m_can0 l D h cI f g K N o k x (by first | assumption | omega | rfl) (by first | assumption | omega | rfl) (by first | assumption | omega | rfl) (by first | assumption | omega | rfl) (by first | assumption | omega | rfl) (by first | assumption | omega | rfl)) (lw_V q2811 q2813 qs82 q122 q2814) ⟨rfl, rfl⟩ (by decide +kernel) ⟨Nat.le_of_ble_eq_true rfl, Nat.le_of_ble_eq_true rfl⟩ hP hD hS rfl hl.1 rfl (Nat.le_of_ble_eq_true rfl) ⟨Nat.zero_le _, Nat.zero_le _⟩ dX4_operates_7 (fun H locs hP hD hS => ?_)
  refine pn_top (y := pc_b true) (congrArg pc_b hcan) ?_
  refine lv_iload hx hb dX4_operates_10 (lv_at hl 5 rfl) ?_
  refine pm_callI (n := 2) [] hx hb hml hown hts hA hK (m_fails_ok l D h cI f g (nI n8) (by first | assumption | omega | rfl)) (lw_V q2366 q2368 qs32 q122 q2369) ⟨rfl, rfl⟩ (by decide +kernel) ⟨Nat.le_of_ble_eq_true rfl, Nat.le_of_ble_eq_true rfl⟩ hP hD hS rfl hl.1 rfl (Nat.le_of_ble_eq_true rfl) ⟨Nat.zero_le _, Nat.zero_le _⟩ dX4_operates_12 (fun H locs hP hD hS => ?_)
  refine pb_if_eq (tgt := 20) hx hb dX4_operates_15 (by decide) (fun c1 => ?_) (fun c1 => ?_)
  · refine lv_aload_n hx hb dX4_operates_20 rfl (lv_at hl 0 rfl) ?_
    refine pm_callV (n := 0) [] hx hb hml hown hts hA hK (m_keeps l D h cI f g u (by first | assumption | omega | rfl) (by first | assumption | omega | rfl)) (lw_V q2823 q2825 qs85 q122 q2826) ⟨rfl, rfl⟩ (by decide +kernel) ⟨Nat.le_of_ble_eq_true rfl, Nat.le_of_ble_eq_true rfl⟩ hP hD hS rfl hl.1 rfl (Nat.le_of_ble_eq_true rfl) ⟨Nat.zero_le _, Nat.zero_le _⟩ dX4_operates_21 (fun H locs hP hD hS => ?_)
    have hP : va_P D pc_Cl (pm_W h cI (va_up f 6 (nI (pc_un u))) (va_up g 5 (pc_keep g u))) H := hP
    have hD : va_D A (pm_W h cI (va_up f 6 (nI (pc_un u))) (va_up g 5 (pc_keep g u))) := hD
    refine lv_aload_n hx hb dX4_operates_24 rfl (lv_at hl 0 rfl) ?_
    refine lv_iload_n hx hb dX4_operates_25 rfl (lv_at hl 1 rfl) ?_
    refine lv_iload_n hx hb dX4_operates_26 rfl (lv_at hl 2 rfl) ?_
    refine lv_iload_n hx hb dX4_operates_27 rfl (lv_at hl 3 rfl) ?_
    refine lv_iload hx hb dX4_operates_28 (lv_at hl 4 rfl) ?_
    refine pm_callI (n := 4) [] hx hb hml hown hts hA hK (m_does0 l D h cI (va_up f 6 (nI (pc_un u))) (va_up g 5 (pc_keep g u)) B K N wl o k x (by first | assumption | omega | rfl) (by first | assumption | omega | rfl) (by first | assumption | omega | rfl)) (lw_V q2827 q2829 qs86 q122 q2830) ⟨rfl, rfl⟩ (by decide +kernel) ⟨Nat.le_of_ble_eq_true rfl, Nat.le_of_ble_eq_true rfl⟩ hP hD hS rfl hl.1 rfl (Nat.le_of_ble_eq_true rfl) ⟨Nat.zero_le _, Nat.zero_le _⟩ dX4_operates_30 (fun H locs hP hD hS => ?_)
    have hP : va_P D pc_Cl (pm_W h cI (va_up f 6 (nI (pc_un u))) (va_up (va_up g 5 (pc_keep g u)) 1 (pc_reqr (g 1) K N o k x))) H := hP
    have hD : va_D A (pm_W h cI (va_up f 6 (nI (pc_un u))) (va_up (va_up g 5 (pc_keep g u)) 1 (pc_reqr (g 1) K N o k x))) := hD
    refine pn_top (y := pc_reqv (g 1) K N o k x) rfl ?_
    exact pm_retI hx hb hlk hr hq hP hD hS dX4_operates_33 rfl rfl
  · exfalso; cases c1

set_option maxHeartbeats 4000000 in
theorem m_operates1_no (l : Launch) (D : va_G) (h : Nat → Nat) (cI : ClassId) (f : Nat → Int32) (g : Nat → Nat → Int32) (K : Nat) (N : Nat) (n8 : Nat) (o : Nat) (k : Nat) (x : Int32) (hN : g 1 1 = nI N) (hN8 : N ≤ 8) (hK0 : g 1 0 = nI K) (hK4 : K ≤ 4) (ho : o < N) (hk : k < K) (hf0 : f 0 = nI 0) (hn8 : 0 < n8) (hn9 : n8 < 10) (hcan : pc_can1 (g 1) o k x = false) : pm_C l yX4_operates (ws_ yX4_operates cX4_operates 6 (some .int)) ({ frames := 2, cells := 0, slots := 0, locals := 46 } : Room) D h cI [.ref (h 0), .int (nI 1), .int (nI o), .int (nI k), .int (x), .int (nI n8)] f g (some (.int (nI 0))) (va_up f 0 (nI n8)) g := by
  refine pm_enter (cc := cX4_operates) (maxL := 6) (ret := (some .int)) (by decide) (Nat.le_of_ble_eq_true rfl) ?_
  intro p e s m below meth c A Qc ls hx hb hml hown hts hlk hA hK hP hD hS hr hq hl
  have hl : lv_has ls 6 [(0, .ref (h 0)), (1, .int (nI 1)), (2, .int (nI o)), (3, .int (nI k)), (4, .int (x)), (5, .int (nI n8))] := hl
  refine lv_aload_n hx hb dX4_operates_0 rfl (lv_at hl 0 rfl) ?_
  refine lv_aload_n hx hb dX4_operates_1 rfl (lv_at hl 0 rfl) ?_
  refine lv_iload_n hx hb dX4_operates_2 rfl (lv_at hl 1 rfl) ?_
  refine lv_iload_n hx hb dX4_operates_3 rfl (lv_at hl 2 rfl) ?_
  refine lv_iload_n hx hb dX4_operates_4 rfl (lv_at hl 3 rfl) ?_
  refine lv_iload hx hb dX4_operates_5 (lv_at hl 4 rfl) ?_
  refine pm_callI (n := 4) [.ref (h 0)] hx hb hml hown hts hA hK (m_can1 l D h cI f g K N o k x (by first | assumption | omega | rfl) (by first | assumption | omega | rfl) (by first | assumption | omega | rfl) (by first | assumption | omega | rfl) (by first | assumption | omega | rfl) (by first | assumption | omega | rfl)) (lw_V q2811 q2813 qs82 q122 q2814) ⟨rfl, rfl⟩ (by decide +kernel) ⟨Nat.le_of_ble_eq_true rfl, Nat.le_of_ble_eq_true rfl⟩ hP hD hS rfl hl.1 rfl (Nat.le_of_ble_eq_true rfl) ⟨Nat.zero_le _, Nat.zero_le _⟩ dX4_operates_7 (fun H locs hP hD hS => ?_)
  refine pn_top (y := pc_b false) (congrArg pc_b hcan) ?_
  refine lv_iload hx hb dX4_operates_10 (lv_at hl 5 rfl) ?_
  refine pm_callI (n := 2) [] hx hb hml hown hts hA hK (m_fails_no l D h cI f g n8 (by first | assumption | omega | rfl) (by first | assumption | omega | rfl) (by first | assumption | omega | rfl)) (lw_V q2366 q2368 qs32 q122 q2369) ⟨rfl, rfl⟩ (by decide +kernel) ⟨Nat.le_of_ble_eq_true rfl, Nat.le_of_ble_eq_true rfl⟩ hP hD hS rfl hl.1 rfl (Nat.le_of_ble_eq_true rfl) ⟨Nat.zero_le _, Nat.zero_le _⟩ dX4_operates_12 (fun H locs hP hD hS => ?_)
  have hP : va_P D pc_Cl (pm_W h cI (va_up f 0 (nI n8)) g) H := hP
  have hD : va_D A (pm_W h cI (va_up f 0 (nI n8)) g) := hD
  refine pb_if_eq (tgt := 20) hx hb dX4_operates_15 (by decide) (fun c1 => ?_) (fun c1 => ?_)
  · exfalso; cases c1
  · refine lv_iconst (v := nI 0) hx hb dX4_operates_18 (by decide) ?_
    exact pm_retI hx hb hlk hr hq hP hD hS dX4_operates_19 rfl rfl

set_option maxHeartbeats 4000000 in
theorem m_operates1_ok (l : Launch) (D : va_G) (h : Nat → Nat) (cI : ClassId) (f : Nat → Int32) (g : Nat → Nat → Int32) (B : Nat) (K : Nat) (N : Nat) (wl : List Nat) (n8 : Nat) (u : Nat) (o : Nat) (k : Nat) (x : Int32) (hI : pc_inv B (g 1) K N wl) (ho : o < N) (hk : k < K) (hf0 : f 0 = nI 0) (hu : f 6 = nI u) (hu8 : u ≤ 8) (hcan : pc_can1 (g 1) o k x = true) : pm_C l yX4_operates (ws_ yX4_operates cX4_operates 6 (some .int)) ({ frames := 14, cells := 0, slots := 0, locals := 319 } : Room) D h cI [.ref (h 0), .int (nI 1), .int (nI o), .int (nI k), .int (x), .int (nI n8)] f g (some (.int (nI (pc_serve (pc_rel (g 1) o k x) K N wl).1))) (va_up f 6 (nI (pc_un u))) (va_up (va_up g 5 (pc_keep g u)) 1 ((pc_serve (pc_rel (g 1) o k x) K N wl).2.1)) := by
  refine pm_enter (cc := cX4_operates) (maxL := 6) (ret := (some .int)) (by decide) (Nat.le_of_ble_eq_true rfl) ?_
  intro p e s m below meth c A Qc ls hx hb hml hown hts hlk hA hK hP hD hS hr hq hl
  have hl : lv_has ls 6 [(0, .ref (h 0)), (1, .int (nI 1)), (2, .int (nI o)), (3, .int (nI k)), (4, .int (x)), (5, .int (nI n8))] := hl
  have hN := hI.N0
  have hK0 := hI.K0
  have hN8 := hI.N8
  have hK4 := hI.K4
  have hN1 := hI.N1
  have hK1 := hI.K1
  have hwt := hI.waiting
  have hln := hI.len
  refine lv_aload_n hx hb dX4_operates_0 rfl (lv_at hl 0 rfl) ?_
  refine lv_aload_n hx hb dX4_operates_1 rfl (lv_at hl 0 rfl) ?_
  refine lv_iload_n hx hb dX4_operates_2 rfl (lv_at hl 1 rfl) ?_
  refine lv_iload_n hx hb dX4_operates_3 rfl (lv_at hl 2 rfl) ?_
  refine lv_iload_n hx hb dX4_operates_4 rfl (lv_at hl 3 rfl) ?_
  refine lv_iload hx hb dX4_operates_5 (lv_at hl 4 rfl) ?_
  refine pm_callI (n := 4) [.ref (h 0)] hx hb hml hown hts hA hK (m_can1 l D h cI f g K N o k x (by first | assumption | omega | rfl) (by first | assumption | omega | rfl) (by first | assumption | omega | rfl) (by first | assumption | omega | rfl) (by first | assumption | omega | rfl) (by first | assumption | omega | rfl)) (lw_V q2811 q2813 qs82 q122 q2814) ⟨rfl, rfl⟩ (by decide +kernel) ⟨Nat.le_of_ble_eq_true rfl, Nat.le_of_ble_eq_true rfl⟩ hP hD hS rfl hl.1 rfl (Nat.le_of_ble_eq_true rfl) ⟨Nat.zero_le _, Nat.zero_le _⟩ dX4_operates_7 (fun H locs hP hD hS => ?_)
  refine pn_top (y := pc_b true) (congrArg pc_b hcan) ?_
  refine lv_iload hx hb dX4_operates_10 (lv_at hl 5 rfl) ?_
  refine pm_callI (n := 2) [] hx hb hml hown hts hA hK (m_fails_ok l D h cI f g (nI n8) (by first | assumption | omega | rfl)) (lw_V q2366 q2368 qs32 q122 q2369) ⟨rfl, rfl⟩ (by decide +kernel) ⟨Nat.le_of_ble_eq_true rfl, Nat.le_of_ble_eq_true rfl⟩ hP hD hS rfl hl.1 rfl (Nat.le_of_ble_eq_true rfl) ⟨Nat.zero_le _, Nat.zero_le _⟩ dX4_operates_12 (fun H locs hP hD hS => ?_)
  refine pb_if_eq (tgt := 20) hx hb dX4_operates_15 (by decide) (fun c1 => ?_) (fun c1 => ?_)
  · refine lv_aload_n hx hb dX4_operates_20 rfl (lv_at hl 0 rfl) ?_
    refine pm_callV (n := 0) [] hx hb hml hown hts hA hK (m_keeps l D h cI f g u (by first | assumption | omega | rfl) (by first | assumption | omega | rfl)) (lw_V q2823 q2825 qs85 q122 q2826) ⟨rfl, rfl⟩ (by decide +kernel) ⟨Nat.le_of_ble_eq_true rfl, Nat.le_of_ble_eq_true rfl⟩ hP hD hS rfl hl.1 rfl (Nat.le_of_ble_eq_true rfl) ⟨Nat.zero_le _, Nat.zero_le _⟩ dX4_operates_21 (fun H locs hP hD hS => ?_)
    have hP : va_P D pc_Cl (pm_W h cI (va_up f 6 (nI (pc_un u))) (va_up g 5 (pc_keep g u))) H := hP
    have hD : va_D A (pm_W h cI (va_up f 6 (nI (pc_un u))) (va_up g 5 (pc_keep g u))) := hD
    refine lv_aload_n hx hb dX4_operates_24 rfl (lv_at hl 0 rfl) ?_
    refine lv_iload_n hx hb dX4_operates_25 rfl (lv_at hl 1 rfl) ?_
    refine lv_iload_n hx hb dX4_operates_26 rfl (lv_at hl 2 rfl) ?_
    refine lv_iload_n hx hb dX4_operates_27 rfl (lv_at hl 3 rfl) ?_
    refine lv_iload hx hb dX4_operates_28 (lv_at hl 4 rfl) ?_
    refine pm_callI (n := 4) [] hx hb hml hown hts hA hK (m_does1 l D h cI (va_up f 6 (nI (pc_un u))) (va_up g 5 (pc_keep g u)) B K N wl o k x (by first | assumption | omega | rfl) (by first | assumption | omega | rfl) (by first | assumption | omega | rfl)) (lw_V q2827 q2829 qs86 q122 q2830) ⟨rfl, rfl⟩ (by decide +kernel) ⟨Nat.le_of_ble_eq_true rfl, Nat.le_of_ble_eq_true rfl⟩ hP hD hS rfl hl.1 rfl (Nat.le_of_ble_eq_true rfl) ⟨Nat.zero_le _, Nat.zero_le _⟩ dX4_operates_30 (fun H locs hP hD hS => ?_)
    have hP : va_P D pc_Cl (pm_W h cI (va_up f 6 (nI (pc_un u))) (va_up (va_up g 5 (pc_keep g u)) 1 ((pc_serve (pc_rel (g 1) o k x) K N wl).2.1))) H := hP
    have hD : va_D A (pm_W h cI (va_up f 6 (nI (pc_un u))) (va_up (va_up g 5 (pc_keep g u)) 1 ((pc_serve (pc_rel (g 1) o k x) K N wl).2.1))) := hD
    refine pn_top (y := nI (pc_serve (pc_rel (g 1) o k x) K N wl).1) rfl ?_
    exact pm_retI hx hb hlk hr hq hP hD hS dX4_operates_33 rfl rfl
  · exfalso; cases c1

set_option maxHeartbeats 4000000 in
theorem m_operates2_ok (l : Launch) (D : va_G) (h : Nat → Nat) (cI : ClassId) (f : Nat → Int32) (g : Nat → Nat → Int32) (B : Nat) (K : Nat) (N : Nat) (wl : List Nat) (n8 : Nat) (u : Nat) (o : Nat) (y8 : Int32) (z8 : Int32) (hI : pc_inv B (g 1) K N wl) (ho : o < N) (hf0 : f 0 = nI 0) (hu : f 6 = nI u) (hu8 : u ≤ 8) : pm_C l yX4_operates (ws_ yX4_operates cX4_operates 6 (some .int)) ({ frames := 14, cells := 0, slots := 0, locals := 318 } : Room) D h cI [.ref (h 0), .int (nI 2), .int (nI o), .int (y8), .int (z8), .int (nI n8)] f g (some (.int (nI (pc_serve (pc_fin (g 1) o K) K N (wl.erase o)).1))) (va_up f 6 (nI (pc_un u))) (va_up (va_up g 5 (pc_keep g u)) 1 ((pc_serve (pc_fin (g 1) o K) K N (wl.erase o)).2.1)) := by
  refine pm_enter (cc := cX4_operates) (maxL := 6) (ret := (some .int)) (by decide) (Nat.le_of_ble_eq_true rfl) ?_
  intro p e s m below meth c A Qc ls hx hb hml hown hts hlk hA hK hP hD hS hr hq hl
  have hl : lv_has ls 6 [(0, .ref (h 0)), (1, .int (nI 2)), (2, .int (nI o)), (3, .int (y8)), (4, .int (z8)), (5, .int (nI n8))] := hl
  have hN := hI.N0
  have hK0 := hI.K0
  have hN8 := hI.N8
  have hK4 := hI.K4
  have hN1 := hI.N1
  have hK1 := hI.K1
  have hwt := hI.waiting
  have hln := hI.len
  refine lv_aload_n hx hb dX4_operates_0 rfl (lv_at hl 0 rfl) ?_
  refine lv_aload_n hx hb dX4_operates_1 rfl (lv_at hl 0 rfl) ?_
  refine lv_iload_n hx hb dX4_operates_2 rfl (lv_at hl 1 rfl) ?_
  refine lv_iload_n hx hb dX4_operates_3 rfl (lv_at hl 2 rfl) ?_
  refine lv_iload_n hx hb dX4_operates_4 rfl (lv_at hl 3 rfl) ?_
  refine lv_iload hx hb dX4_operates_5 (lv_at hl 4 rfl) ?_
  refine pm_callI (n := 4) [.ref (h 0)] hx hb hml hown hts hA hK (m_can2 l D h cI f g K N o y8 z8 (by first | assumption | omega | rfl) (by first | assumption | omega | rfl) (by first | assumption | omega | rfl) (by first | assumption | omega | rfl) (by first | assumption | omega | rfl)) (lw_V q2811 q2813 qs82 q122 q2814) ⟨rfl, rfl⟩ (by decide +kernel) ⟨Nat.le_of_ble_eq_true rfl, Nat.le_of_ble_eq_true rfl⟩ hP hD hS rfl hl.1 rfl (Nat.le_of_ble_eq_true rfl) ⟨Nat.zero_le _, Nat.zero_le _⟩ dX4_operates_7 (fun H locs hP hD hS => ?_)
  refine lv_iload hx hb dX4_operates_10 (lv_at hl 5 rfl) ?_
  refine pm_callI (n := 2) [] hx hb hml hown hts hA hK (m_fails_ok l D h cI f g (nI n8) (by first | assumption | omega | rfl)) (lw_V q2366 q2368 qs32 q122 q2369) ⟨rfl, rfl⟩ (by decide +kernel) ⟨Nat.le_of_ble_eq_true rfl, Nat.le_of_ble_eq_true rfl⟩ hP hD hS rfl hl.1 rfl (Nat.le_of_ble_eq_true rfl) ⟨Nat.zero_le _, Nat.zero_le _⟩ dX4_operates_12 (fun H locs hP hD hS => ?_)
  refine pb_if_eq (tgt := 20) hx hb dX4_operates_15 (by decide) (fun c1 => ?_) (fun c1 => ?_)
  · refine lv_aload_n hx hb dX4_operates_20 rfl (lv_at hl 0 rfl) ?_
    refine pm_callV (n := 0) [] hx hb hml hown hts hA hK (m_keeps l D h cI f g u (by first | assumption | omega | rfl) (by first | assumption | omega | rfl)) (lw_V q2823 q2825 qs85 q122 q2826) ⟨rfl, rfl⟩ (by decide +kernel) ⟨Nat.le_of_ble_eq_true rfl, Nat.le_of_ble_eq_true rfl⟩ hP hD hS rfl hl.1 rfl (Nat.le_of_ble_eq_true rfl) ⟨Nat.zero_le _, Nat.zero_le _⟩ dX4_operates_21 (fun H locs hP hD hS => ?_)
    have hP : va_P D pc_Cl (pm_W h cI (va_up f 6 (nI (pc_un u))) (va_up g 5 (pc_keep g u))) H := hP
    have hD : va_D A (pm_W h cI (va_up f 6 (nI (pc_un u))) (va_up g 5 (pc_keep g u))) := hD
    refine lv_aload_n hx hb dX4_operates_24 rfl (lv_at hl 0 rfl) ?_
    refine lv_iload_n hx hb dX4_operates_25 rfl (lv_at hl 1 rfl) ?_
    refine lv_iload_n hx hb dX4_operates_26 rfl (lv_at hl 2 rfl) ?_
    refine lv_iload_n hx hb dX4_operates_27 rfl (lv_at hl 3 rfl) ?_
    refine lv_iload hx hb dX4_operates_28 (lv_at hl 4 rfl) ?_
    refine pm_callI (n := 4) [] hx hb hml hown hts hA hK (m_does2 l D h cI (va_up f 6 (nI (pc_un u))) (va_up g 5 (pc_keep g u)) B K N wl o y8 z8 (by first | assumption | omega | rfl) (by first | assumption | omega | rfl)) (lw_V q2827 q2829 qs86 q122 q2830) ⟨rfl, rfl⟩ (by decide +kernel) ⟨Nat.le_of_ble_eq_true rfl, Nat.le_of_ble_eq_true rfl⟩ hP hD hS rfl hl.1 rfl (Nat.le_of_ble_eq_true rfl) ⟨Nat.zero_le _, Nat.zero_le _⟩ dX4_operates_30 (fun H locs hP hD hS => ?_)
    have hP : va_P D pc_Cl (pm_W h cI (va_up f 6 (nI (pc_un u))) (va_up (va_up g 5 (pc_keep g u)) 1 ((pc_serve (pc_fin (g 1) o K) K N (wl.erase o)).2.1))) H := hP
    have hD : va_D A (pm_W h cI (va_up f 6 (nI (pc_un u))) (va_up (va_up g 5 (pc_keep g u)) 1 ((pc_serve (pc_fin (g 1) o K) K N (wl.erase o)).2.1))) := hD
    refine pn_top (y := nI (pc_serve (pc_fin (g 1) o K) K N (wl.erase o)).1) rfl ?_
    exact pm_retI hx hb hlk hr hq hP hD hS dX4_operates_33 rfl rfl
  · exfalso; cases c1

set_option maxHeartbeats 4000000 in
theorem m_operates3_no (l : Launch) (D : va_G) (h : Nat → Nat) (cI : ClassId) (f : Nat → Int32) (g : Nat → Nat → Int32) (K : Nat) (N : Nat) (n8 : Nat) (o : Nat) (y8 : Int32) (z8 : Int32) (hN : g 1 1 = nI N) (hN8 : N ≤ 8) (hK0 : g 1 0 = nI K) (hK4 : K ≤ 4) (ho : o < N) (hf0 : f 0 = nI 0) (hn8 : 0 < n8) (hn9 : n8 < 10) (hcan : pc_wait (g 1) o = false) : pm_C l yX4_operates (ws_ yX4_operates cX4_operates 6 (some .int)) ({ frames := 3, cells := 0, slots := 0, locals := 67 } : Room) D h cI [.ref (h 0), .int (nI 3), .int (nI o), .int (y8), .int (z8), .int (nI n8)] f g (some (.int (nI 0))) (va_up f 0 (nI n8)) g := by
  refine pm_enter (cc := cX4_operates) (maxL := 6) (ret := (some .int)) (by decide) (Nat.le_of_ble_eq_true rfl) ?_
  intro p e s m below meth c A Qc ls hx hb hml hown hts hlk hA hK hP hD hS hr hq hl
  have hl : lv_has ls 6 [(0, .ref (h 0)), (1, .int (nI 3)), (2, .int (nI o)), (3, .int (y8)), (4, .int (z8)), (5, .int (nI n8))] := hl
  refine lv_aload_n hx hb dX4_operates_0 rfl (lv_at hl 0 rfl) ?_
  refine lv_aload_n hx hb dX4_operates_1 rfl (lv_at hl 0 rfl) ?_
  refine lv_iload_n hx hb dX4_operates_2 rfl (lv_at hl 1 rfl) ?_
  refine lv_iload_n hx hb dX4_operates_3 rfl (lv_at hl 2 rfl) ?_
  refine lv_iload_n hx hb dX4_operates_4 rfl (lv_at hl 3 rfl) ?_
  refine lv_iload hx hb dX4_operates_5 (lv_at hl 4 rfl) ?_
  refine pm_callI (n := 4) [.ref (h 0)] hx hb hml hown hts hA hK (m_can3 l D h cI f g K N o y8 z8 (by first | assumption | omega | rfl) (by first | assumption | omega | rfl) (by first | assumption | omega | rfl) (by first | assumption | omega | rfl) (by first | assumption | omega | rfl)) (lw_V q2811 q2813 qs82 q122 q2814) ⟨rfl, rfl⟩ (by decide +kernel) ⟨Nat.le_of_ble_eq_true rfl, Nat.le_of_ble_eq_true rfl⟩ hP hD hS rfl hl.1 rfl (Nat.le_of_ble_eq_true rfl) ⟨Nat.zero_le _, Nat.zero_le _⟩ dX4_operates_7 (fun H locs hP hD hS => ?_)
  refine pn_top (y := pc_b false) (congrArg pc_b hcan) ?_
  refine lv_iload hx hb dX4_operates_10 (lv_at hl 5 rfl) ?_
  refine pm_callI (n := 2) [] hx hb hml hown hts hA hK (m_fails_no l D h cI f g n8 (by first | assumption | omega | rfl) (by first | assumption | omega | rfl) (by first | assumption | omega | rfl)) (lw_V q2366 q2368 qs32 q122 q2369) ⟨rfl, rfl⟩ (by decide +kernel) ⟨Nat.le_of_ble_eq_true rfl, Nat.le_of_ble_eq_true rfl⟩ hP hD hS rfl hl.1 rfl (Nat.le_of_ble_eq_true rfl) ⟨Nat.zero_le _, Nat.zero_le _⟩ dX4_operates_12 (fun H locs hP hD hS => ?_)
  have hP : va_P D pc_Cl (pm_W h cI (va_up f 0 (nI n8)) g) H := hP
  have hD : va_D A (pm_W h cI (va_up f 0 (nI n8)) g) := hD
  refine pb_if_eq (tgt := 20) hx hb dX4_operates_15 (by decide) (fun c1 => ?_) (fun c1 => ?_)
  · exfalso; cases c1
  · refine lv_iconst (v := nI 0) hx hb dX4_operates_18 (by decide) ?_
    exact pm_retI hx hb hlk hr hq hP hD hS dX4_operates_19 rfl rfl

set_option maxHeartbeats 4000000 in
theorem m_operates3_ok (l : Launch) (D : va_G) (h : Nat → Nat) (cI : ClassId) (f : Nat → Int32) (g : Nat → Nat → Int32) (B : Nat) (K : Nat) (N : Nat) (wl : List Nat) (n8 : Nat) (u : Nat) (o : Nat) (y8 : Int32) (z8 : Int32) (hI : pc_inv B (g 1) K N wl) (ho : o < N) (hf0 : f 0 = nI 0) (hu : f 6 = nI u) (hu8 : u ≤ 8) (hcan : pc_wait (g 1) o = true) : pm_C l yX4_operates (ws_ yX4_operates cX4_operates 6 (some .int)) ({ frames := 14, cells := 0, slots := 0, locals := 318 } : Room) D h cI [.ref (h 0), .int (nI 3), .int (nI o), .int (y8), .int (z8), .int (nI n8)] f g (some (.int (nI (pc_waiting (pc_serve (pc_forgets (g 1) o) K N (wl.erase o)).2.1 N)))) (va_up f 6 (nI (pc_un u))) (va_up (va_up g 5 (pc_keep g u)) 1 ((pc_serve (pc_forgets (g 1) o) K N (wl.erase o)).2.1)) := by
  refine pm_enter (cc := cX4_operates) (maxL := 6) (ret := (some .int)) (by decide) (Nat.le_of_ble_eq_true rfl) ?_
  intro p e s m below meth c A Qc ls hx hb hml hown hts hlk hA hK hP hD hS hr hq hl
  have hl : lv_has ls 6 [(0, .ref (h 0)), (1, .int (nI 3)), (2, .int (nI o)), (3, .int (y8)), (4, .int (z8)), (5, .int (nI n8))] := hl
  have hN := hI.N0
  have hK0 := hI.K0
  have hN8 := hI.N8
  have hK4 := hI.K4
  have hN1 := hI.N1
  have hK1 := hI.K1
  have hwt := hI.waiting
  have hln := hI.len
  refine lv_aload_n hx hb dX4_operates_0 rfl (lv_at hl 0 rfl) ?_
  refine lv_aload_n hx hb dX4_operates_1 rfl (lv_at hl 0 rfl) ?_
  refine lv_iload_n hx hb dX4_operates_2 rfl (lv_at hl 1 rfl) ?_
  refine lv_iload_n hx hb dX4_operates_3 rfl (lv_at hl 2 rfl) ?_
  refine lv_iload_n hx hb dX4_operates_4 rfl (lv_at hl 3 rfl) ?_
  refine lv_iload hx hb dX4_operates_5 (lv_at hl 4 rfl) ?_
  refine pm_callI (n := 4) [.ref (h 0)] hx hb hml hown hts hA hK (m_can3 l D h cI f g K N o y8 z8 (by first | assumption | omega | rfl) (by first | assumption | omega | rfl) (by first | assumption | omega | rfl) (by first | assumption | omega | rfl) (by first | assumption | omega | rfl)) (lw_V q2811 q2813 qs82 q122 q2814) ⟨rfl, rfl⟩ (by decide +kernel) ⟨Nat.le_of_ble_eq_true rfl, Nat.le_of_ble_eq_true rfl⟩ hP hD hS rfl hl.1 rfl (Nat.le_of_ble_eq_true rfl) ⟨Nat.zero_le _, Nat.zero_le _⟩ dX4_operates_7 (fun H locs hP hD hS => ?_)
  refine pn_top (y := pc_b true) (congrArg pc_b hcan) ?_
  refine lv_iload hx hb dX4_operates_10 (lv_at hl 5 rfl) ?_
  refine pm_callI (n := 2) [] hx hb hml hown hts hA hK (m_fails_ok l D h cI f g (nI n8) (by first | assumption | omega | rfl)) (lw_V q2366 q2368 qs32 q122 q2369) ⟨rfl, rfl⟩ (by decide +kernel) ⟨Nat.le_of_ble_eq_true rfl, Nat.le_of_ble_eq_true rfl⟩ hP hD hS rfl hl.1 rfl (Nat.le_of_ble_eq_true rfl) ⟨Nat.zero_le _, Nat.zero_le _⟩ dX4_operates_12 (fun H locs hP hD hS => ?_)
  refine pb_if_eq (tgt := 20) hx hb dX4_operates_15 (by decide) (fun c1 => ?_) (fun c1 => ?_)
  · refine lv_aload_n hx hb dX4_operates_20 rfl (lv_at hl 0 rfl) ?_
    refine pm_callV (n := 0) [] hx hb hml hown hts hA hK (m_keeps l D h cI f g u (by first | assumption | omega | rfl) (by first | assumption | omega | rfl)) (lw_V q2823 q2825 qs85 q122 q2826) ⟨rfl, rfl⟩ (by decide +kernel) ⟨Nat.le_of_ble_eq_true rfl, Nat.le_of_ble_eq_true rfl⟩ hP hD hS rfl hl.1 rfl (Nat.le_of_ble_eq_true rfl) ⟨Nat.zero_le _, Nat.zero_le _⟩ dX4_operates_21 (fun H locs hP hD hS => ?_)
    have hP : va_P D pc_Cl (pm_W h cI (va_up f 6 (nI (pc_un u))) (va_up g 5 (pc_keep g u))) H := hP
    have hD : va_D A (pm_W h cI (va_up f 6 (nI (pc_un u))) (va_up g 5 (pc_keep g u))) := hD
    refine lv_aload_n hx hb dX4_operates_24 rfl (lv_at hl 0 rfl) ?_
    refine lv_iload_n hx hb dX4_operates_25 rfl (lv_at hl 1 rfl) ?_
    refine lv_iload_n hx hb dX4_operates_26 rfl (lv_at hl 2 rfl) ?_
    refine lv_iload_n hx hb dX4_operates_27 rfl (lv_at hl 3 rfl) ?_
    refine lv_iload hx hb dX4_operates_28 (lv_at hl 4 rfl) ?_
    refine pm_callI (n := 4) [] hx hb hml hown hts hA hK (m_does3 l D h cI (va_up f 6 (nI (pc_un u))) (va_up g 5 (pc_keep g u)) B K N wl o y8 z8 (by first | assumption | omega | rfl) (by first | assumption | omega | rfl)) (lw_V q2827 q2829 qs86 q122 q2830) ⟨rfl, rfl⟩ (by decide +kernel) ⟨Nat.le_of_ble_eq_true rfl, Nat.le_of_ble_eq_true rfl⟩ hP hD hS rfl hl.1 rfl (Nat.le_of_ble_eq_true rfl) ⟨Nat.zero_le _, Nat.zero_le _⟩ dX4_operates_30 (fun H locs hP hD hS => ?_)
    have hP : va_P D pc_Cl (pm_W h cI (va_up f 6 (nI (pc_un u))) (va_up (va_up g 5 (pc_keep g u)) 1 ((pc_serve (pc_forgets (g 1) o) K N (wl.erase o)).2.1))) H := hP
    have hD : va_D A (pm_W h cI (va_up f 6 (nI (pc_un u))) (va_up (va_up g 5 (pc_keep g u)) 1 ((pc_serve (pc_forgets (g 1) o) K N (wl.erase o)).2.1))) := hD
    refine pn_top (y := nI (pc_waiting (pc_serve (pc_forgets (g 1) o) K N (wl.erase o)).2.1 N)) rfl ?_
    exact pm_retI hx hb hlk hr hq hP hD hS dX4_operates_33 rfl rfl
  · exfalso; cases c1

set_option maxHeartbeats 4000000 in
theorem m_operates4_no (l : Launch) (D : va_G) (h : Nat → Nat) (cI : ClassId) (f : Nat → Int32) (g : Nat → Nat → Int32) (K : Nat) (N : Nat) (n8 : Nat) (o : Nat) (k : Nat) (x : Int32) (hN : g 1 1 = nI N) (hN8 : N ≤ 8) (hK0 : g 1 0 = nI K) (hK4 : K ≤ 4) (ho : o < N) (hk : k < K) (hf0 : f 0 = nI 0) (hn8 : 0 < n8) (hn9 : n8 < 10) (hcan : pc_canClaim (g 1) K N o k x = false) : pm_C l yX4_operates (ws_ yX4_operates cX4_operates 6 (some .int)) ({ frames := 11, cells := 0, slots := 0, locals := 252 } : Room) D h cI [.ref (h 0), .int (nI 4), .int (nI o), .int (nI k), .int (x), .int (nI n8)] f g (some (.int (nI 0))) (va_up f 0 (nI n8)) g := by
  refine pm_enter (cc := cX4_operates) (maxL := 6) (ret := (some .int)) (by decide) (Nat.le_of_ble_eq_true rfl) ?_
  intro p e s m below meth c A Qc ls hx hb hml hown hts hlk hA hK hP hD hS hr hq hl
  have hl : lv_has ls 6 [(0, .ref (h 0)), (1, .int (nI 4)), (2, .int (nI o)), (3, .int (nI k)), (4, .int (x)), (5, .int (nI n8))] := hl
  refine lv_aload_n hx hb dX4_operates_0 rfl (lv_at hl 0 rfl) ?_
  refine lv_aload_n hx hb dX4_operates_1 rfl (lv_at hl 0 rfl) ?_
  refine lv_iload_n hx hb dX4_operates_2 rfl (lv_at hl 1 rfl) ?_
  refine lv_iload_n hx hb dX4_operates_3 rfl (lv_at hl 2 rfl) ?_
  refine lv_iload_n hx hb dX4_operates_4 rfl (lv_at hl 3 rfl) ?_
  refine lv_iload hx hb dX4_operates_5 (lv_at hl 4 rfl) ?_
  refine pm_callI (n := 4) [.ref (h 0)] hx hb hml hown hts hA hK (m_can4 l D h cI f g K N o k x (by first | assumption | omega | rfl) (by first | assumption | omega | rfl) (by first | assumption | omega | rfl) (by first | assumption | omega | rfl) (by first | assumption | omega | rfl) (by first | assumption | omega | rfl)) (lw_V q2811 q2813 qs82 q122 q2814) ⟨rfl, rfl⟩ (by decide +kernel) ⟨Nat.le_of_ble_eq_true rfl, Nat.le_of_ble_eq_true rfl⟩ hP hD hS rfl hl.1 rfl (Nat.le_of_ble_eq_true rfl) ⟨Nat.zero_le _, Nat.zero_le _⟩ dX4_operates_7 (fun H locs hP hD hS => ?_)
  refine pn_top (y := pc_b false) (congrArg pc_b hcan) ?_
  refine lv_iload hx hb dX4_operates_10 (lv_at hl 5 rfl) ?_
  refine pm_callI (n := 2) [] hx hb hml hown hts hA hK (m_fails_no l D h cI f g n8 (by first | assumption | omega | rfl) (by first | assumption | omega | rfl) (by first | assumption | omega | rfl)) (lw_V q2366 q2368 qs32 q122 q2369) ⟨rfl, rfl⟩ (by decide +kernel) ⟨Nat.le_of_ble_eq_true rfl, Nat.le_of_ble_eq_true rfl⟩ hP hD hS rfl hl.1 rfl (Nat.le_of_ble_eq_true rfl) ⟨Nat.zero_le _, Nat.zero_le _⟩ dX4_operates_12 (fun H locs hP hD hS => ?_)
  have hP : va_P D pc_Cl (pm_W h cI (va_up f 0 (nI n8)) g) H := hP
  have hD : va_D A (pm_W h cI (va_up f 0 (nI n8)) g) := hD
  refine pb_if_eq (tgt := 20) hx hb dX4_operates_15 (by decide) (fun c1 => ?_) (fun c1 => ?_)
  · exfalso; cases c1
  · refine lv_iconst (v := nI 0) hx hb dX4_operates_18 (by decide) ?_
    exact pm_retI hx hb hlk hr hq hP hD hS dX4_operates_19 rfl rfl

set_option maxHeartbeats 4000000 in
theorem m_operates4_ok (l : Launch) (D : va_G) (h : Nat → Nat) (cI : ClassId) (f : Nat → Int32) (g : Nat → Nat → Int32) (B : Nat) (K : Nat) (N : Nat) (wl : List Nat) (n8 : Nat) (u : Nat) (o : Nat) (k : Nat) (x : Int32) (hI : pc_inv B (g 1) K N wl) (ho : o < N) (hk : k < K) (hf0 : f 0 = nI 0) (hu : f 6 = nI u) (hu8 : u ≤ 8) (hcan : pc_canClaim (g 1) K N o k x = true) : pm_C l yX4_operates (ws_ yX4_operates cX4_operates 6 (some .int)) ({ frames := 14, cells := 0, slots := 0, locals := 321 } : Room) D h cI [.ref (h 0), .int (nI 4), .int (nI o), .int (nI k), .int (x), .int (nI n8)] f g (some (.int (pc_of (g 1) o (0 + k)))) (va_up f 6 (nI (pc_un u))) (va_up (va_up g 5 (pc_keep g u)) 1 ((pc_serve (pc_lays (g 1) o (0 + k) x) K N wl).2.1)) := by
  refine pm_enter (cc := cX4_operates) (maxL := 6) (ret := (some .int)) (by decide) (Nat.le_of_ble_eq_true rfl) ?_
  intro p e s m below meth c A Qc ls hx hb hml hown hts hlk hA hK hP hD hS hr hq hl
  have hl : lv_has ls 6 [(0, .ref (h 0)), (1, .int (nI 4)), (2, .int (nI o)), (3, .int (nI k)), (4, .int (x)), (5, .int (nI n8))] := hl
  have hN := hI.N0
  have hK0 := hI.K0
  have hN8 := hI.N8
  have hK4 := hI.K4
  have hN1 := hI.N1
  have hK1 := hI.K1
  have hwt := hI.waiting
  have hln := hI.len
  refine lv_aload_n hx hb dX4_operates_0 rfl (lv_at hl 0 rfl) ?_
  refine lv_aload_n hx hb dX4_operates_1 rfl (lv_at hl 0 rfl) ?_
  refine lv_iload_n hx hb dX4_operates_2 rfl (lv_at hl 1 rfl) ?_
  refine lv_iload_n hx hb dX4_operates_3 rfl (lv_at hl 2 rfl) ?_
  refine lv_iload_n hx hb dX4_operates_4 rfl (lv_at hl 3 rfl) ?_
  refine lv_iload hx hb dX4_operates_5 (lv_at hl 4 rfl) ?_
  refine pm_callI (n := 4) [.ref (h 0)] hx hb hml hown hts hA hK (m_can4 l D h cI f g K N o k x (by first | assumption | omega | rfl) (by first | assumption | omega | rfl) (by first | assumption | omega | rfl) (by first | assumption | omega | rfl) (by first | assumption | omega | rfl) (by first | assumption | omega | rfl)) (lw_V q2811 q2813 qs82 q122 q2814) ⟨rfl, rfl⟩ (by decide +kernel) ⟨Nat.le_of_ble_eq_true rfl, Nat.le_of_ble_eq_true rfl⟩ hP hD hS rfl hl.1 rfl (Nat.le_of_ble_eq_true rfl) ⟨Nat.zero_le _, Nat.zero_le _⟩ dX4_operates_7 (fun H locs hP hD hS => ?_)
  refine pn_top (y := pc_b true) (congrArg pc_b hcan) ?_
  refine lv_iload hx hb dX4_operates_10 (lv_at hl 5 rfl) ?_
  refine pm_callI (n := 2) [] hx hb hml hown hts hA hK (m_fails_ok l D h cI f g (nI n8) (by first | assumption | omega | rfl)) (lw_V q2366 q2368 qs32 q122 q2369) ⟨rfl, rfl⟩ (by decide +kernel) ⟨Nat.le_of_ble_eq_true rfl, Nat.le_of_ble_eq_true rfl⟩ hP hD hS rfl hl.1 rfl (Nat.le_of_ble_eq_true rfl) ⟨Nat.zero_le _, Nat.zero_le _⟩ dX4_operates_12 (fun H locs hP hD hS => ?_)
  refine pb_if_eq (tgt := 20) hx hb dX4_operates_15 (by decide) (fun c1 => ?_) (fun c1 => ?_)
  · refine lv_aload_n hx hb dX4_operates_20 rfl (lv_at hl 0 rfl) ?_
    refine pm_callV (n := 0) [] hx hb hml hown hts hA hK (m_keeps l D h cI f g u (by first | assumption | omega | rfl) (by first | assumption | omega | rfl)) (lw_V q2823 q2825 qs85 q122 q2826) ⟨rfl, rfl⟩ (by decide +kernel) ⟨Nat.le_of_ble_eq_true rfl, Nat.le_of_ble_eq_true rfl⟩ hP hD hS rfl hl.1 rfl (Nat.le_of_ble_eq_true rfl) ⟨Nat.zero_le _, Nat.zero_le _⟩ dX4_operates_21 (fun H locs hP hD hS => ?_)
    have hP : va_P D pc_Cl (pm_W h cI (va_up f 6 (nI (pc_un u))) (va_up g 5 (pc_keep g u))) H := hP
    have hD : va_D A (pm_W h cI (va_up f 6 (nI (pc_un u))) (va_up g 5 (pc_keep g u))) := hD
    refine lv_aload_n hx hb dX4_operates_24 rfl (lv_at hl 0 rfl) ?_
    refine lv_iload_n hx hb dX4_operates_25 rfl (lv_at hl 1 rfl) ?_
    refine lv_iload_n hx hb dX4_operates_26 rfl (lv_at hl 2 rfl) ?_
    refine lv_iload_n hx hb dX4_operates_27 rfl (lv_at hl 3 rfl) ?_
    refine lv_iload hx hb dX4_operates_28 (lv_at hl 4 rfl) ?_
    refine pm_callI (n := 4) [] hx hb hml hown hts hA hK (m_does4 l D h cI (va_up f 6 (nI (pc_un u))) (va_up g 5 (pc_keep g u)) B K N wl o k x (by first | assumption | omega | rfl) (by first | assumption | omega | rfl) (by first | assumption | omega | rfl)) (lw_V q2827 q2829 qs86 q122 q2830) ⟨rfl, rfl⟩ (by decide +kernel) ⟨Nat.le_of_ble_eq_true rfl, Nat.le_of_ble_eq_true rfl⟩ hP hD hS rfl hl.1 rfl (Nat.le_of_ble_eq_true rfl) ⟨Nat.zero_le _, Nat.zero_le _⟩ dX4_operates_30 (fun H locs hP hD hS => ?_)
    have hP : va_P D pc_Cl (pm_W h cI (va_up f 6 (nI (pc_un u))) (va_up (va_up g 5 (pc_keep g u)) 1 ((pc_serve (pc_lays (g 1) o (0 + k) x) K N wl).2.1))) H := hP
    have hD : va_D A (pm_W h cI (va_up f 6 (nI (pc_un u))) (va_up (va_up g 5 (pc_keep g u)) 1 ((pc_serve (pc_lays (g 1) o (0 + k) x) K N wl).2.1))) := hD
    refine pn_top (y := pc_of (g 1) o (0 + k)) rfl ?_
    exact pm_retI hx hb hlk hr hq hP hD hS dX4_operates_33 rfl rfl
  · exfalso; cases c1

set_option maxHeartbeats 4000000 in
theorem m_operates5_no (l : Launch) (D : va_G) (h : Nat → Nat) (cI : ClassId) (f : Nat → Int32) (g : Nat → Nat → Int32) (K : Nat) (N : Nat) (n8 : Nat) (k : Nat) (x : Int32) (z8 : Int32) (hN : g 1 1 = nI N) (hN8 : N ≤ 8) (hK0 : g 1 0 = nI K) (hK4 : K ≤ 4) (hk : k < K) (hf0 : f 0 = nI 0) (hn8 : 0 < n8) (hn9 : n8 < 10) (hcan : pc_can5 (g 1) k x = false) : pm_C l yX4_operates (ws_ yX4_operates cX4_operates 6 (some .int)) ({ frames := 1, cells := 0, slots := 0, locals := 24 } : Room) D h cI [.ref (h 0), .int (nI 5), .int (nI k), .int (x), .int (z8), .int (nI n8)] f g (some (.int (nI 0))) (va_up f 0 (nI n8)) g := by
  refine pm_enter (cc := cX4_operates) (maxL := 6) (ret := (some .int)) (by decide) (Nat.le_of_ble_eq_true rfl) ?_
  intro p e s m below meth c A Qc ls hx hb hml hown hts hlk hA hK hP hD hS hr hq hl
  have hl : lv_has ls 6 [(0, .ref (h 0)), (1, .int (nI 5)), (2, .int (nI k)), (3, .int (x)), (4, .int (z8)), (5, .int (nI n8))] := hl
  refine lv_aload_n hx hb dX4_operates_0 rfl (lv_at hl 0 rfl) ?_
  refine lv_aload_n hx hb dX4_operates_1 rfl (lv_at hl 0 rfl) ?_
  refine lv_iload_n hx hb dX4_operates_2 rfl (lv_at hl 1 rfl) ?_
  refine lv_iload_n hx hb dX4_operates_3 rfl (lv_at hl 2 rfl) ?_
  refine lv_iload_n hx hb dX4_operates_4 rfl (lv_at hl 3 rfl) ?_
  refine lv_iload hx hb dX4_operates_5 (lv_at hl 4 rfl) ?_
  refine pm_callI (n := 4) [.ref (h 0)] hx hb hml hown hts hA hK (m_can5 l D h cI f g K N k x z8 (by first | assumption | omega | rfl) (by first | assumption | omega | rfl) (by first | assumption | omega | rfl) (by first | assumption | omega | rfl) (by first | assumption | omega | rfl)) (lw_V q2811 q2813 qs82 q122 q2814) ⟨rfl, rfl⟩ (by decide +kernel) ⟨Nat.le_of_ble_eq_true rfl, Nat.le_of_ble_eq_true rfl⟩ hP hD hS rfl hl.1 rfl (Nat.le_of_ble_eq_true rfl) ⟨Nat.zero_le _, Nat.zero_le _⟩ dX4_operates_7 (fun H locs hP hD hS => ?_)
  refine pn_top (y := pc_b false) (congrArg pc_b hcan) ?_
  refine lv_iload hx hb dX4_operates_10 (lv_at hl 5 rfl) ?_
  refine pm_callI (n := 2) [] hx hb hml hown hts hA hK (m_fails_no l D h cI f g n8 (by first | assumption | omega | rfl) (by first | assumption | omega | rfl) (by first | assumption | omega | rfl)) (lw_V q2366 q2368 qs32 q122 q2369) ⟨rfl, rfl⟩ (by decide +kernel) ⟨Nat.le_of_ble_eq_true rfl, Nat.le_of_ble_eq_true rfl⟩ hP hD hS rfl hl.1 rfl (Nat.le_of_ble_eq_true rfl) ⟨Nat.zero_le _, Nat.zero_le _⟩ dX4_operates_12 (fun H locs hP hD hS => ?_)
  have hP : va_P D pc_Cl (pm_W h cI (va_up f 0 (nI n8)) g) H := hP
  have hD : va_D A (pm_W h cI (va_up f 0 (nI n8)) g) := hD
  refine pb_if_eq (tgt := 20) hx hb dX4_operates_15 (by decide) (fun c1 => ?_) (fun c1 => ?_)
  · exfalso; cases c1
  · refine lv_iconst (v := nI 0) hx hb dX4_operates_18 (by decide) ?_
    exact pm_retI hx hb hlk hr hq hP hD hS dX4_operates_19 rfl rfl

set_option maxHeartbeats 4000000 in
theorem m_operates5_ok (l : Launch) (D : va_G) (h : Nat → Nat) (cI : ClassId) (f : Nat → Int32) (g : Nat → Nat → Int32) (B : Nat) (K : Nat) (N : Nat) (wl : List Nat) (n8 : Nat) (u : Nat) (k : Nat) (x : Int32) (z8 : Int32) (hI : pc_inv B (g 1) K N wl) (hk : k < K) (hf0 : f 0 = nI 0) (hu : f 6 = nI u) (hu8 : u ≤ 8) (hcan : pc_can5 (g 1) k x = true) : pm_C l yX4_operates (ws_ yX4_operates cX4_operates 6 (some .int)) ({ frames := 13, cells := 0, slots := 0, locals := 296 } : Room) D h cI [.ref (h 0), .int (nI 5), .int (nI k), .int (x), .int (z8), .int (nI n8)] f g (some (.int (nI (pc_serve (pc_plus (g 1) (9 + k) x) K N wl).1))) (va_up f 6 (nI (pc_un u))) (va_up (va_up g 5 (pc_keep g u)) 1 ((pc_serve (pc_plus (g 1) (9 + k) x) K N wl).2.1)) := by
  refine pm_enter (cc := cX4_operates) (maxL := 6) (ret := (some .int)) (by decide) (Nat.le_of_ble_eq_true rfl) ?_
  intro p e s m below meth c A Qc ls hx hb hml hown hts hlk hA hK hP hD hS hr hq hl
  have hl : lv_has ls 6 [(0, .ref (h 0)), (1, .int (nI 5)), (2, .int (nI k)), (3, .int (x)), (4, .int (z8)), (5, .int (nI n8))] := hl
  have hN := hI.N0
  have hK0 := hI.K0
  have hN8 := hI.N8
  have hK4 := hI.K4
  have hN1 := hI.N1
  have hK1 := hI.K1
  have hwt := hI.waiting
  have hln := hI.len
  refine lv_aload_n hx hb dX4_operates_0 rfl (lv_at hl 0 rfl) ?_
  refine lv_aload_n hx hb dX4_operates_1 rfl (lv_at hl 0 rfl) ?_
  refine lv_iload_n hx hb dX4_operates_2 rfl (lv_at hl 1 rfl) ?_
  refine lv_iload_n hx hb dX4_operates_3 rfl (lv_at hl 2 rfl) ?_
  refine lv_iload_n hx hb dX4_operates_4 rfl (lv_at hl 3 rfl) ?_
  refine lv_iload hx hb dX4_operates_5 (lv_at hl 4 rfl) ?_
  refine pm_callI (n := 4) [.ref (h 0)] hx hb hml hown hts hA hK (m_can5 l D h cI f g K N k x z8 (by first | assumption | omega | rfl) (by first | assumption | omega | rfl) (by first | assumption | omega | rfl) (by first | assumption | omega | rfl) (by first | assumption | omega | rfl)) (lw_V q2811 q2813 qs82 q122 q2814) ⟨rfl, rfl⟩ (by decide +kernel) ⟨Nat.le_of_ble_eq_true rfl, Nat.le_of_ble_eq_true rfl⟩ hP hD hS rfl hl.1 rfl (Nat.le_of_ble_eq_true rfl) ⟨Nat.zero_le _, Nat.zero_le _⟩ dX4_operates_7 (fun H locs hP hD hS => ?_)
  refine pn_top (y := pc_b true) (congrArg pc_b hcan) ?_
  refine lv_iload hx hb dX4_operates_10 (lv_at hl 5 rfl) ?_
  refine pm_callI (n := 2) [] hx hb hml hown hts hA hK (m_fails_ok l D h cI f g (nI n8) (by first | assumption | omega | rfl)) (lw_V q2366 q2368 qs32 q122 q2369) ⟨rfl, rfl⟩ (by decide +kernel) ⟨Nat.le_of_ble_eq_true rfl, Nat.le_of_ble_eq_true rfl⟩ hP hD hS rfl hl.1 rfl (Nat.le_of_ble_eq_true rfl) ⟨Nat.zero_le _, Nat.zero_le _⟩ dX4_operates_12 (fun H locs hP hD hS => ?_)
  refine pb_if_eq (tgt := 20) hx hb dX4_operates_15 (by decide) (fun c1 => ?_) (fun c1 => ?_)
  · refine lv_aload_n hx hb dX4_operates_20 rfl (lv_at hl 0 rfl) ?_
    refine pm_callV (n := 0) [] hx hb hml hown hts hA hK (m_keeps l D h cI f g u (by first | assumption | omega | rfl) (by first | assumption | omega | rfl)) (lw_V q2823 q2825 qs85 q122 q2826) ⟨rfl, rfl⟩ (by decide +kernel) ⟨Nat.le_of_ble_eq_true rfl, Nat.le_of_ble_eq_true rfl⟩ hP hD hS rfl hl.1 rfl (Nat.le_of_ble_eq_true rfl) ⟨Nat.zero_le _, Nat.zero_le _⟩ dX4_operates_21 (fun H locs hP hD hS => ?_)
    have hP : va_P D pc_Cl (pm_W h cI (va_up f 6 (nI (pc_un u))) (va_up g 5 (pc_keep g u))) H := hP
    have hD : va_D A (pm_W h cI (va_up f 6 (nI (pc_un u))) (va_up g 5 (pc_keep g u))) := hD
    refine lv_aload_n hx hb dX4_operates_24 rfl (lv_at hl 0 rfl) ?_
    refine lv_iload_n hx hb dX4_operates_25 rfl (lv_at hl 1 rfl) ?_
    refine lv_iload_n hx hb dX4_operates_26 rfl (lv_at hl 2 rfl) ?_
    refine lv_iload_n hx hb dX4_operates_27 rfl (lv_at hl 3 rfl) ?_
    refine lv_iload hx hb dX4_operates_28 (lv_at hl 4 rfl) ?_
    refine pm_callI (n := 4) [] hx hb hml hown hts hA hK (m_does5 l D h cI (va_up f 6 (nI (pc_un u))) (va_up g 5 (pc_keep g u)) B K N wl k x z8 (by first | assumption | omega | rfl) (by first | assumption | omega | rfl)) (lw_V q2827 q2829 qs86 q122 q2830) ⟨rfl, rfl⟩ (by decide +kernel) ⟨Nat.le_of_ble_eq_true rfl, Nat.le_of_ble_eq_true rfl⟩ hP hD hS rfl hl.1 rfl (Nat.le_of_ble_eq_true rfl) ⟨Nat.zero_le _, Nat.zero_le _⟩ dX4_operates_30 (fun H locs hP hD hS => ?_)
    have hP : va_P D pc_Cl (pm_W h cI (va_up f 6 (nI (pc_un u))) (va_up (va_up g 5 (pc_keep g u)) 1 ((pc_serve (pc_plus (g 1) (9 + k) x) K N wl).2.1))) H := hP
    have hD : va_D A (pm_W h cI (va_up f 6 (nI (pc_un u))) (va_up (va_up g 5 (pc_keep g u)) 1 ((pc_serve (pc_plus (g 1) (9 + k) x) K N wl).2.1))) := hD
    refine pn_top (y := nI (pc_serve (pc_plus (g 1) (9 + k) x) K N wl).1) rfl ?_
    exact pm_retI hx hb hlk hr hq hP hD hS dX4_operates_33 rfl rfl
  · exfalso; cases c1

set_option maxHeartbeats 4000000 in
theorem m_operates6_no (l : Launch) (D : va_G) (h : Nat → Nat) (cI : ClassId) (f : Nat → Int32) (g : Nat → Nat → Int32) (K : Nat) (N : Nat) (n8 : Nat) (k : Nat) (x : Int32) (z8 : Int32) (hN : g 1 1 = nI N) (hN8 : N ≤ 8) (hK0 : g 1 0 = nI K) (hK4 : K ≤ 4) (hk : k < K) (hf0 : f 0 = nI 0) (hn8 : 0 < n8) (hn9 : n8 < 10) (hcan : pc_canRetire (g 1) K N k x = false) : pm_C l yX4_operates (ws_ yX4_operates cX4_operates 6 (some .int)) ({ frames := 10, cells := 0, slots := 0, locals := 226 } : Room) D h cI [.ref (h 0), .int (nI 6), .int (nI k), .int (x), .int (z8), .int (nI n8)] f g (some (.int (nI 0))) (va_up f 0 (nI n8)) g := by
  refine pm_enter (cc := cX4_operates) (maxL := 6) (ret := (some .int)) (by decide) (Nat.le_of_ble_eq_true rfl) ?_
  intro p e s m below meth c A Qc ls hx hb hml hown hts hlk hA hK hP hD hS hr hq hl
  have hl : lv_has ls 6 [(0, .ref (h 0)), (1, .int (nI 6)), (2, .int (nI k)), (3, .int (x)), (4, .int (z8)), (5, .int (nI n8))] := hl
  refine lv_aload_n hx hb dX4_operates_0 rfl (lv_at hl 0 rfl) ?_
  refine lv_aload_n hx hb dX4_operates_1 rfl (lv_at hl 0 rfl) ?_
  refine lv_iload_n hx hb dX4_operates_2 rfl (lv_at hl 1 rfl) ?_
  refine lv_iload_n hx hb dX4_operates_3 rfl (lv_at hl 2 rfl) ?_
  refine lv_iload_n hx hb dX4_operates_4 rfl (lv_at hl 3 rfl) ?_
  refine lv_iload hx hb dX4_operates_5 (lv_at hl 4 rfl) ?_
  refine pm_callI (n := 4) [.ref (h 0)] hx hb hml hown hts hA hK (m_can6 l D h cI f g K N k x z8 (by first | assumption | omega | rfl) (by first | assumption | omega | rfl) (by first | assumption | omega | rfl) (by first | assumption | omega | rfl) (by first | assumption | omega | rfl)) (lw_V q2811 q2813 qs82 q122 q2814) ⟨rfl, rfl⟩ (by decide +kernel) ⟨Nat.le_of_ble_eq_true rfl, Nat.le_of_ble_eq_true rfl⟩ hP hD hS rfl hl.1 rfl (Nat.le_of_ble_eq_true rfl) ⟨Nat.zero_le _, Nat.zero_le _⟩ dX4_operates_7 (fun H locs hP hD hS => ?_)
  refine pn_top (y := pc_b false) (congrArg pc_b hcan) ?_
  refine lv_iload hx hb dX4_operates_10 (lv_at hl 5 rfl) ?_
  refine pm_callI (n := 2) [] hx hb hml hown hts hA hK (m_fails_no l D h cI f g n8 (by first | assumption | omega | rfl) (by first | assumption | omega | rfl) (by first | assumption | omega | rfl)) (lw_V q2366 q2368 qs32 q122 q2369) ⟨rfl, rfl⟩ (by decide +kernel) ⟨Nat.le_of_ble_eq_true rfl, Nat.le_of_ble_eq_true rfl⟩ hP hD hS rfl hl.1 rfl (Nat.le_of_ble_eq_true rfl) ⟨Nat.zero_le _, Nat.zero_le _⟩ dX4_operates_12 (fun H locs hP hD hS => ?_)
  have hP : va_P D pc_Cl (pm_W h cI (va_up f 0 (nI n8)) g) H := hP
  have hD : va_D A (pm_W h cI (va_up f 0 (nI n8)) g) := hD
  refine pb_if_eq (tgt := 20) hx hb dX4_operates_15 (by decide) (fun c1 => ?_) (fun c1 => ?_)
  · exfalso; cases c1
  · refine lv_iconst (v := nI 0) hx hb dX4_operates_18 (by decide) ?_
    exact pm_retI hx hb hlk hr hq hP hD hS dX4_operates_19 rfl rfl

set_option maxHeartbeats 4000000 in
theorem m_operates6_ok (l : Launch) (D : va_G) (h : Nat → Nat) (cI : ClassId) (f : Nat → Int32) (g : Nat → Nat → Int32) (B : Nat) (K : Nat) (N : Nat) (wl : List Nat) (n8 : Nat) (u : Nat) (k : Nat) (x : Int32) (z8 : Int32) (hI : pc_inv B (g 1) K N wl) (hk : k < K) (hf0 : f 0 = nI 0) (hu : f 6 = nI u) (hu8 : u ≤ 8) (hcan : pc_canRetire (g 1) K N k x = true) : pm_C l yX4_operates (ws_ yX4_operates cX4_operates 6 (some .int)) ({ frames := 10, cells := 0, slots := 0, locals := 226 } : Room) D h cI [.ref (h 0), .int (nI 6), .int (nI k), .int (x), .int (z8), .int (nI n8)] f g (some (.int ((pc_retires (g 1) k x) (9 + k)))) (va_up f 6 (nI (pc_un u))) (va_up (va_up g 5 (pc_keep g u)) 1 (pc_retires (g 1) k x)) := by
  refine pm_enter (cc := cX4_operates) (maxL := 6) (ret := (some .int)) (by decide) (Nat.le_of_ble_eq_true rfl) ?_
  intro p e s m below meth c A Qc ls hx hb hml hown hts hlk hA hK hP hD hS hr hq hl
  have hl : lv_has ls 6 [(0, .ref (h 0)), (1, .int (nI 6)), (2, .int (nI k)), (3, .int (x)), (4, .int (z8)), (5, .int (nI n8))] := hl
  have hN := hI.N0
  have hK0 := hI.K0
  have hN8 := hI.N8
  have hK4 := hI.K4
  have hN1 := hI.N1
  have hK1 := hI.K1
  have hwt := hI.waiting
  have hln := hI.len
  refine lv_aload_n hx hb dX4_operates_0 rfl (lv_at hl 0 rfl) ?_
  refine lv_aload_n hx hb dX4_operates_1 rfl (lv_at hl 0 rfl) ?_
  refine lv_iload_n hx hb dX4_operates_2 rfl (lv_at hl 1 rfl) ?_
  refine lv_iload_n hx hb dX4_operates_3 rfl (lv_at hl 2 rfl) ?_
  refine lv_iload_n hx hb dX4_operates_4 rfl (lv_at hl 3 rfl) ?_
  refine lv_iload hx hb dX4_operates_5 (lv_at hl 4 rfl) ?_
  refine pm_callI (n := 4) [.ref (h 0)] hx hb hml hown hts hA hK (m_can6 l D h cI f g K N k x z8 (by first | assumption | omega | rfl) (by first | assumption | omega | rfl) (by first | assumption | omega | rfl) (by first | assumption | omega | rfl) (by first | assumption | omega | rfl)) (lw_V q2811 q2813 qs82 q122 q2814) ⟨rfl, rfl⟩ (by decide +kernel) ⟨Nat.le_of_ble_eq_true rfl, Nat.le_of_ble_eq_true rfl⟩ hP hD hS rfl hl.1 rfl (Nat.le_of_ble_eq_true rfl) ⟨Nat.zero_le _, Nat.zero_le _⟩ dX4_operates_7 (fun H locs hP hD hS => ?_)
  refine pn_top (y := pc_b true) (congrArg pc_b hcan) ?_
  refine lv_iload hx hb dX4_operates_10 (lv_at hl 5 rfl) ?_
  refine pm_callI (n := 2) [] hx hb hml hown hts hA hK (m_fails_ok l D h cI f g (nI n8) (by first | assumption | omega | rfl)) (lw_V q2366 q2368 qs32 q122 q2369) ⟨rfl, rfl⟩ (by decide +kernel) ⟨Nat.le_of_ble_eq_true rfl, Nat.le_of_ble_eq_true rfl⟩ hP hD hS rfl hl.1 rfl (Nat.le_of_ble_eq_true rfl) ⟨Nat.zero_le _, Nat.zero_le _⟩ dX4_operates_12 (fun H locs hP hD hS => ?_)
  refine pb_if_eq (tgt := 20) hx hb dX4_operates_15 (by decide) (fun c1 => ?_) (fun c1 => ?_)
  · refine lv_aload_n hx hb dX4_operates_20 rfl (lv_at hl 0 rfl) ?_
    refine pm_callV (n := 0) [] hx hb hml hown hts hA hK (m_keeps l D h cI f g u (by first | assumption | omega | rfl) (by first | assumption | omega | rfl)) (lw_V q2823 q2825 qs85 q122 q2826) ⟨rfl, rfl⟩ (by decide +kernel) ⟨Nat.le_of_ble_eq_true rfl, Nat.le_of_ble_eq_true rfl⟩ hP hD hS rfl hl.1 rfl (Nat.le_of_ble_eq_true rfl) ⟨Nat.zero_le _, Nat.zero_le _⟩ dX4_operates_21 (fun H locs hP hD hS => ?_)
    have hP : va_P D pc_Cl (pm_W h cI (va_up f 6 (nI (pc_un u))) (va_up g 5 (pc_keep g u))) H := hP
    have hD : va_D A (pm_W h cI (va_up f 6 (nI (pc_un u))) (va_up g 5 (pc_keep g u))) := hD
    refine lv_aload_n hx hb dX4_operates_24 rfl (lv_at hl 0 rfl) ?_
    refine lv_iload_n hx hb dX4_operates_25 rfl (lv_at hl 1 rfl) ?_
    refine lv_iload_n hx hb dX4_operates_26 rfl (lv_at hl 2 rfl) ?_
    refine lv_iload_n hx hb dX4_operates_27 rfl (lv_at hl 3 rfl) ?_
    refine lv_iload hx hb dX4_operates_28 (lv_at hl 4 rfl) ?_
    refine pm_callI (n := 4) [] hx hb hml hown hts hA hK (m_does6 l D h cI (va_up f 6 (nI (pc_un u))) (va_up g 5 (pc_keep g u)) B K N wl k x z8 (by first | assumption | omega | rfl) (by first | assumption | omega | rfl)) (lw_V q2827 q2829 qs86 q122 q2830) ⟨rfl, rfl⟩ (by decide +kernel) ⟨Nat.le_of_ble_eq_true rfl, Nat.le_of_ble_eq_true rfl⟩ hP hD hS rfl hl.1 rfl (Nat.le_of_ble_eq_true rfl) ⟨Nat.zero_le _, Nat.zero_le _⟩ dX4_operates_30 (fun H locs hP hD hS => ?_)
    have hP : va_P D pc_Cl (pm_W h cI (va_up f 6 (nI (pc_un u))) (va_up (va_up g 5 (pc_keep g u)) 1 (pc_retires (g 1) k x))) H := hP
    have hD : va_D A (pm_W h cI (va_up f 6 (nI (pc_un u))) (va_up (va_up g 5 (pc_keep g u)) 1 (pc_retires (g 1) k x))) := hD
    refine pn_top (y := (pc_retires (g 1) k x) (9 + k)) rfl ?_
    exact pm_retI hx hb hlk hr hq hP hD hS dX4_operates_33 rfl rfl
  · exfalso; cases c1
