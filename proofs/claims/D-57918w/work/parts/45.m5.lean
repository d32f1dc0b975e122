/-! THE REFERENCE 5: trials, counting -/
set_option maxRecDepth 100000
set_option maxHeartbeats 4000000 in
theorem m_greatestGrant_ok (l : Launch) (D : va_G) (h : Nat → Nat) (cI : ClassId) (f : Nat → Int32) (g : Nat → Nat → Int32) (B : Nat) (K : Nat) (N : Nat) (wl : List Nat) (o : Nat) (k : Nat) (hI : pc_inv B (g 1) K N wl) (ho : o < N) (hk : k < K) : pm_C l yX4_greatestGrant (ws_ yX4_greatestGrant cX4_greatestGrant 4 (some .int)) ({ frames := 10, cells := 0, slots := 0, locals := 226 } : Room) D h cI [.ref (h 0), .int (nI o), .int (nI k)] f g (some (.int (pc_grg (g 1) K N o k))) (va_up f 0 (nI 0)) g := by
  refine pm_enter (cc := cX4_greatestGrant) (maxL := 4) (ret := (some .int)) (by decide) (Nat.le_of_ble_eq_true rfl) ?_
  intro p e s m below meth c A Qc ls hx hb hml hown hts hlk hA hK hP hD hS hr hq hl
  have hl : lv_has ls 4 [(0, .ref (h 0)), (1, .int (nI o)), (2, .int (nI k))] := hl
  have hN := hI.N0
  have hK0 := hI.K0
  have hN8 := hI.N8
  have hK4 := hI.K4
  have hN1 := hI.N1
  have hK1 := hI.K1
  have hwt := hI.waiting
  have hln := hI.len
  refine lv_aload_n hx hb dX4_greatestGrant_0 rfl (lv_at hl 0 rfl) ?_
  refine lv_iconst (v := nI 0) hx hb dX4_greatestGrant_1 (by decide) ?_
  refine pm_put0 (f := f) (f2 := (va_up f 0 (nI 0))) hx hb hts hown hK hP hD hS (hts _ q2482) rfl dX4_greatestGrant_2 (fun H locs hP hD hS => ?_)
  refine lv_aload_n hx hb dX4_greatestGrant_5 rfl (lv_at hl 0 rfl) ?_
  refine lv_iload_n hx hb dX4_greatestGrant_6 rfl (lv_at hl 1 rfl) ?_
  refine lv_iload_n hx hb dX4_greatestGrant_7 rfl (lv_at hl 2 rfl) ?_
  refine pm_callI (n := 2) [] hx hb hml hown hts hA hK (m_noPair_ok l D h cI (va_up f 0 (nI 0)) g K N o k (by first | assumption | omega | rfl) (by first | assumption | omega | rfl) (by first | assumption | omega | rfl) (by first | assumption | omega | rfl) (by first | assumption | omega | rfl) (by first | assumption | omega | rfl) (by first | assumption | omega | rfl)) (lw_V q2606 q2608 qs60 q122 q2609) ⟨rfl, rfl⟩ (by decide +kernel) ⟨Nat.le_of_ble_eq_true rfl, Nat.le_of_ble_eq_true rfl⟩ hP hD hS rfl hl.1 rfl (Nat.le_of_ble_eq_true rfl) ⟨Nat.zero_le _, Nat.zero_le _⟩ dX4_greatestGrant_8 (fun H locs hP hD hS => ?_)
  refine pb_if_eq (tgt := 16) hx hb dX4_greatestGrant_11 (by decide) (fun c1 => ?_) (fun c1 => ?_)
  · refine lv_aload_n hx hb dX4_greatestGrant_16 rfl (lv_at hl 0 rfl) ?_
    refine lv_iload_n hx hb dX4_greatestGrant_17 rfl (lv_at hl 1 rfl) ?_
    refine lv_iload_n hx hb dX4_greatestGrant_18 rfl (lv_at hl 2 rfl) ?_
    refine pm_callI (n := 2) [] hx hb hml hown hts hA hK (m_needOf l D h cI (va_up f 0 (nI 0)) g o k (by first | assumption | omega | rfl) (by first | assumption | omega | rfl)) (lw_V q2474 q2476 qs55 q122 q2477) ⟨rfl, rfl⟩ (by decide +kernel) ⟨Nat.le_of_ble_eq_true rfl, Nat.le_of_ble_eq_true rfl⟩ hP hD hS rfl hl.1 rfl (Nat.le_of_ble_eq_true rfl) ⟨Nat.zero_le _, Nat.zero_le _⟩ dX4_greatestGrant_19 (fun H locs hP hD hS => ?_)
    refine lv_istore_n (lv' := [(3, .int (pc_need (g 1) o k)), (0, .ref (h 0)), (1, .int (nI o)), (2, .int (nI k))]) hx hb dX4_greatestGrant_22 rfl hl (by decide) rfl (fun ls hl => ?_)
    have hloop23 : ∀ (n23 : Nat) (x1 : Int32), pc_down (pc_can (g 1) K N o k) x1 = pc_grg (g 1) K N o k → x1.toNatClampNeg < n23 → ∀ (H : Heap) (locs : List Loc), va_P D pc_Cl (pm_W h cI (va_up f 0 (nI 0)) g) H → va_D A (pm_W h cI (va_up f 0 (nI 0)) g) → va_S A s.heap H locs → ∀ ls : Array Slot, lv_has ls 4 [(3, .int (x1)), (0, .ref (h 0)), (1, .int (nI o)), (2, .int (nI k))] → W p l e ({ frames := 10, cells := 0, slots := 0, locals := 226 } : Room) s m ([.ref (h 0), .int (nI o), .int (nI k)] : List Value).toArray below meth c H locs 0 0 (MQ below Qc ([.ref (h 0), .int (nI o), .int (nI k)] : List Value).toArray s 0 0 A) (F0 m 23 ls []) := by
      intro n23
      induction n23 with
      | zero => intro x1 hx1 hm; exact absurd hm (by omega)
      | succ n23 ih23 =>
        intro x1 hx1 hm23 H locs hP hD hS ls hl
        refine lv_iload_n hx hb dX4_greatestGrant_23 rfl (lv_at hl 0 rfl) ?_
        refine lv_if_le (tgt := 43) hx hb dX4_greatestGrant_24 (by decide) (fun c2 => ?_) (fun c2 => ?_)
        · have hdx := pc_down_0 (p := pc_can (g 1) K N o k) c2
          refine lv_iload_n hx hb dX4_greatestGrant_43 rfl (lv_at hl 0 rfl) ?_
          exact pm_retI hx hb hlk hr hq hP hD hS dX4_greatestGrant_44 (by exact hdx.symm.trans hx1) rfl
        · refine lv_aload_n hx hb dX4_greatestGrant_27 rfl (lv_at hl 1 rfl) ?_
          refine lv_iload_n hx hb dX4_greatestGrant_28 rfl (lv_at hl 2 rfl) ?_
          refine lv_iload_n hx hb dX4_greatestGrant_29 rfl (lv_at hl 3 rfl) ?_
          refine lv_iload_n hx hb dX4_greatestGrant_30 rfl (lv_at hl 0 rfl) ?_
          refine pm_callI (n := 3) [] hx hb hml hown hts hA hK (m_canGrant l D h cI (va_up f 0 (nI 0)) g K N o k x1 (by first | assumption | omega | rfl) (by first | assumption | omega | rfl) (by first | assumption | omega | rfl) (by first | assumption | omega | rfl) (by first | assumption | omega | rfl) (by first | assumption | omega | rfl)) (lw_V q2728 q2730 qs71 q122 q2731) ⟨rfl, rfl⟩ (by decide +kernel) ⟨Nat.le_of_ble_eq_true rfl, Nat.le_of_ble_eq_true rfl⟩ hP hD hS rfl hl.1 rfl (Nat.le_of_ble_eq_true rfl) ⟨Nat.zero_le _, Nat.zero_le _⟩ dX4_greatestGrant_31 (fun H locs hP hD hS => ?_)
          refine pb_if_ne (tgt := 43) hx hb dX4_greatestGrant_34 (by decide) (fun c3 => ?_) (fun c3 => ?_)
          · have hdx := pc_down_yes c2 c3
            refine lv_iload_n hx hb dX4_greatestGrant_43 rfl (lv_at hl 0 rfl) ?_
            exact pm_retI hx hb hlk hr hq hP hD hS dX4_greatestGrant_44 (by exact hdx.symm.trans hx1) rfl
          · have hdn := pc_down_lt c2
            refine lv_iinc (v := x1 + -1) (lv' := [(3, .int (x1 + -1)), (0, .ref (h 0)), (1, .int (nI o)), (2, .int (nI k))]) hx hb dX4_greatestGrant_37 hl (k := 0) rfl rfl (by decide) rfl (fun ls hl => ?_)
            refine lv_goto (tgt := 23) hx hb dX4_greatestGrant_40 (by decide) ?_
            exact ih23 (x1 + -1) (by rw [← hx1]; exact (pc_down_no c2 c3).symm) (by omega) _ _ hP hD hS _ (lv_sub hl [0, 1, 2, 3] rfl)
    exact hloop23 ((pc_need (g 1) o k).toNatClampNeg + 1) (pc_need (g 1) o k) rfl (by omega) _ _ hP hD hS _ (lv_sub hl [0, 1, 2, 3] rfl)
  · exfalso; cases c1

set_option maxHeartbeats 4000000 in
theorem m_greatestGrant_no (l : Launch) (D : va_G) (h : Nat → Nat) (cI : ClassId) (f : Nat → Int32) (g : Nat → Nat → Int32) (B : Nat) (K : Nat) (N : Nat) (wl : List Nat) (x8 : Int32) (y8 : Int32) (hI : pc_inv B (g 1) K N wl) (hx8 : pc_inr x8 (nI 0) (nI (N - 1)) = false) : pm_C l yX4_greatestGrant (ws_ yX4_greatestGrant cX4_greatestGrant 4 (some .int)) ({ frames := 3, cells := 0, slots := 0, locals := 65 } : Room) D h cI [.ref (h 0), .int (x8), .int (y8)] f g (some (.int (nI 0))) (va_up f 0 (nI 1)) g := by
  refine pm_enter (cc := cX4_greatestGrant) (maxL := 4) (ret := (some .int)) (by decide) (Nat.le_of_ble_eq_true rfl) ?_
  intro p e s m below meth c A Qc ls hx hb hml hown hts hlk hA hK hP hD hS hr hq hl
  have hl : lv_has ls 4 [(0, .ref (h 0)), (1, .int (x8)), (2, .int (y8))] := hl
  have hN := hI.N0
  have hK0 := hI.K0
  have hN8 := hI.N8
  have hK4 := hI.K4
  have hN1 := hI.N1
  have hK1 := hI.K1
  have hwt := hI.waiting
  have hln := hI.len
  refine lv_aload_n hx hb dX4_greatestGrant_0 rfl (lv_at hl 0 rfl) ?_
  refine lv_iconst (v := nI 0) hx hb dX4_greatestGrant_1 (by decide) ?_
  refine pm_put0 (f := f) (f2 := (va_up f 0 (nI 0))) hx hb hts hown hK hP hD hS (hts _ q2482) rfl dX4_greatestGrant_2 (fun H locs hP hD hS => ?_)
  refine lv_aload_n hx hb dX4_greatestGrant_5 rfl (lv_at hl 0 rfl) ?_
  refine lv_iload_n hx hb dX4_greatestGrant_6 rfl (lv_at hl 1 rfl) ?_
  refine lv_iload_n hx hb dX4_greatestGrant_7 rfl (lv_at hl 2 rfl) ?_
  refine pm_callI (n := 2) [] hx hb hml hown hts hA hK (m_noPair_no l D h cI (va_up f 0 (nI 0)) g N x8 y8 (by first | assumption | omega | rfl) (by first | assumption | omega | rfl) (by first | assumption | omega | rfl) (by first | assumption | omega | rfl) (by first | assumption | omega | rfl)) (lw_V q2606 q2608 qs60 q122 q2609) ⟨rfl, rfl⟩ (by decide +kernel) ⟨Nat.le_of_ble_eq_true rfl, Nat.le_of_ble_eq_true rfl⟩ hP hD hS rfl hl.1 rfl (Nat.le_of_ble_eq_true rfl) ⟨Nat.zero_le _, Nat.zero_le _⟩ dX4_greatestGrant_8 (fun H locs hP hD hS => ?_)
  have hP : va_P D pc_Cl (pm_W h cI (va_up f 0 (nI 1)) g) H := hP
  have hD : va_D A (pm_W h cI (va_up f 0 (nI 1)) g) := hD
  refine pb_if_eq (tgt := 16) hx hb dX4_greatestGrant_11 (by decide) (fun c1 => ?_) (fun c1 => ?_)
  · exfalso; cases c1
  · refine lv_iconst (v := nI 0) hx hb dX4_greatestGrant_14 (by decide) ?_
    exact pm_retI hx hb hlk hr hq hP hD hS dX4_greatestGrant_15 rfl rfl

set_option maxHeartbeats 4000000 in
theorem m_greatestGrant_nk (l : Launch) (D : va_G) (h : Nat → Nat) (cI : ClassId) (f : Nat → Int32) (g : Nat → Nat → Int32) (B : Nat) (K : Nat) (N : Nat) (wl : List Nat) (o : Nat) (y8 : Int32) (hI : pc_inv B (g 1) K N wl) (ho : o < N) (hx8 : pc_inr y8 (nI 0) (nI (K - 1)) = false) : pm_C l yX4_greatestGrant (ws_ yX4_greatestGrant cX4_greatestGrant 4 (some .int)) ({ frames := 3, cells := 0, slots := 0, locals := 65 } : Room) D h cI [.ref (h 0), .int (nI o), .int (y8)] f g (some (.int (nI 0))) (va_up f 0 (nI 1)) g := by
  refine pm_enter (cc := cX4_greatestGrant) (maxL := 4) (ret := (some .int)) (by decide) (Nat.le_of_ble_eq_true rfl) ?_
  intro p e s m below meth c A Qc ls hx hb hml hown hts hlk hA hK hP hD hS hr hq hl
  have hl : lv_has ls 4 [(0, .ref (h 0)), (1, .int (nI o)), (2, .int (y8))] := hl
  have hN := hI.N0
  have hK0 := hI.K0
  have hN8 := hI.N8
  have hK4 := hI.K4
  have hN1 := hI.N1
  have hK1 := hI.K1
  have hwt := hI.waiting
  have hln := hI.len
  refine lv_aload_n hx hb dX4_greatestGrant_0 rfl (lv_at hl 0 rfl) ?_
  refine lv_iconst (v := nI 0) hx hb dX4_greatestGrant_1 (by decide) ?_
  refine pm_put0 (f := f) (f2 := (va_up f 0 (nI 0))) hx hb hts hown hK hP hD hS (hts _ q2482) rfl dX4_greatestGrant_2 (fun H locs hP hD hS => ?_)
  refine lv_aload_n hx hb dX4_greatestGrant_5 rfl (lv_at hl 0 rfl) ?_
  refine lv_iload_n hx hb dX4_greatestGrant_6 rfl (lv_at hl 1 rfl) ?_
  refine lv_iload_n hx hb dX4_greatestGrant_7 rfl (lv_at hl 2 rfl) ?_
  refine pm_callI (n := 2) [] hx hb hml hown hts hA hK (m_noPair_nk l D h cI (va_up f 0 (nI 0)) g K N o y8 (by first | assumption | omega | rfl) (by first | assumption | omega | rfl) (by first | assumption | omega | rfl) (by first | assumption | omega | rfl) (by first | assumption | omega | rfl) (by first | assumption | omega | rfl) (by first | assumption | omega | rfl) (by first | assumption | omega | rfl)) (lw_V q2606 q2608 qs60 q122 q2609) ⟨rfl, rfl⟩ (by decide +kernel) ⟨Nat.le_of_ble_eq_true rfl, Nat.le_of_ble_eq_true rfl⟩ hP hD hS rfl hl.1 rfl (Nat.le_of_ble_eq_true rfl) ⟨Nat.zero_le _, Nat.zero_le _⟩ dX4_greatestGrant_8 (fun H locs hP hD hS => ?_)
  have hP : va_P D pc_Cl (pm_W h cI (va_up f 0 (nI 1)) g) H := hP
  have hD : va_D A (pm_W h cI (va_up f 0 (nI 1)) g) := hD
  refine pb_if_eq (tgt := 16) hx hb dX4_greatestGrant_11 (by decide) (fun c1 => ?_) (fun c1 => ?_)
  · exfalso; cases c1
  · refine lv_iconst (v := nI 0) hx hb dX4_greatestGrant_14 (by decide) ?_
    exact pm_retI hx hb hlk hr hq hP hD hS dX4_greatestGrant_15 rfl rfl

set_option maxHeartbeats 4000000 in
theorem m_spare_ok (l : Launch) (D : va_G) (h : Nat → Nat) (cI : ClassId) (f : Nat → Int32) (g : Nat → Nat → Int32) (B : Nat) (K : Nat) (N : Nat) (wl : List Nat) (k : Nat) (hI : pc_inv B (g 1) K N wl) (hk : k < K) : pm_C l yX4_spare (ws_ yX4_spare cX4_spare 3 (some .int)) ({ frames := 9, cells := 0, slots := 0, locals := 202 } : Room) D h cI [.ref (h 0), .int (nI k)] f g (some (.int (pc_down (pc_canRetire (g 1) K N k) (nI 20)))) (va_up f 0 (nI 0)) g := by
  refine pm_enter (cc := cX4_spare) (maxL := 3) (ret := (some .int)) (by decide) (Nat.le_of_ble_eq_true rfl) ?_
  intro p e s m below meth c A Qc ls hx hb hml hown hts hlk hA hK hP hD hS hr hq hl
  have hl : lv_has ls 3 [(0, .ref (h 0)), (1, .int (nI k))] := hl
  have hN := hI.N0
  have hK0 := hI.K0
  have hN8 := hI.N8
  have hK4 := hI.K4
  have hN1 := hI.N1
  have hK1 := hI.K1
  have hwt := hI.waiting
  have hln := hI.len
  refine lv_aload_n hx hb dX4_spare_0 rfl (lv_at hl 0 rfl) ?_
  refine lv_iconst (v := nI 0) hx hb dX4_spare_1 (by decide) ?_
  refine pm_put0 (f := f) (f2 := (va_up f 0 (nI 0))) hx hb hts hown hK hP hD hS (hts _ q2482) rfl dX4_spare_2 (fun H locs hP hD hS => ?_)
  refine lv_aload_n hx hb dX4_spare_5 rfl (lv_at hl 0 rfl) ?_
  refine lv_iload_n hx hb dX4_spare_6 rfl (lv_at hl 1 rfl) ?_
  refine pm_callI (n := 1) [] hx hb hml hown hts hA hK (m_noKind_ok l D h cI (va_up f 0 (nI 0)) g K k (by first | assumption | omega | rfl) (by first | assumption | omega | rfl) (by first | assumption | omega | rfl) (by first | assumption | omega | rfl)) (lw_V q2574 q2576 qs58 q122 q2577) ⟨rfl, rfl⟩ (by decide +kernel) ⟨Nat.le_of_ble_eq_true rfl, Nat.le_of_ble_eq_true rfl⟩ hP hD hS rfl hl.1 rfl (Nat.le_of_ble_eq_true rfl) ⟨Nat.zero_le _, Nat.zero_le _⟩ dX4_spare_7 (fun H locs hP hD hS => ?_)
  refine pb_if_eq (tgt := 15) hx hb dX4_spare_10 (by decide) (fun c1 => ?_) (fun c1 => ?_)
  · refine lv_bipush (v := nI 20) hx hb dX4_spare_15 (by decide) ?_
    refine lv_istore_n (lv' := [(2, .int (nI 20)), (0, .ref (h 0)), (1, .int (nI k))]) hx hb dX4_spare_17 rfl hl (by decide) rfl (fun ls hl => ?_)
    have hloop18 : ∀ (n18 : Nat) (x1 : Int32), pc_down (pc_canRetire (g 1) K N k) x1 = pc_down (pc_canRetire (g 1) K N k) (nI 20) → x1.toNatClampNeg < n18 → ∀ (H : Heap) (locs : List Loc), va_P D pc_Cl (pm_W h cI (va_up f 0 (nI 0)) g) H → va_D A (pm_W h cI (va_up f 0 (nI 0)) g) → va_S A s.heap H locs → ∀ ls : Array Slot, lv_has ls 3 [(2, .int (x1)), (0, .ref (h 0)), (1, .int (nI k))] → W p l e ({ frames := 9, cells := 0, slots := 0, locals := 202 } : Room) s m ([.ref (h 0), .int (nI k)] : List Value).toArray below meth c H locs 0 0 (MQ below Qc ([.ref (h 0), .int (nI k)] : List Value).toArray s 0 0 A) (F0 m 18 ls []) := by
      intro n18
      induction n18 with
      | zero => intro x1 hx1 hm; exact absurd hm (by omega)
      | succ n18 ih18 =>
        intro x1 hx1 hm18 H locs hP hD hS ls hl
        refine lv_iload_n hx hb dX4_spare_18 rfl (lv_at hl 0 rfl) ?_
        refine lv_if_le (tgt := 37) hx hb dX4_spare_19 (by decide) (fun c2 => ?_) (fun c2 => ?_)
        · have hdx := pc_down_0 (p := pc_canRetire (g 1) K N k) c2
          refine lv_iload_n hx hb dX4_spare_37 rfl (lv_at hl 0 rfl) ?_
          exact pm_retI hx hb hlk hr hq hP hD hS dX4_spare_38 (by exact hdx.symm.trans hx1) rfl
        · refine lv_aload_n hx hb dX4_spare_22 rfl (lv_at hl 1 rfl) ?_
          refine lv_iload_n hx hb dX4_spare_23 rfl (lv_at hl 2 rfl) ?_
          refine lv_iload_n hx hb dX4_spare_24 rfl (lv_at hl 0 rfl) ?_
          refine pm_callI (n := 2) [] hx hb hml hown hts hA hK (m_canRetire l D h cI (va_up f 0 (nI 0)) g K N k x1 (by first | assumption | omega | rfl) (by first | assumption | omega | rfl) (by first | assumption | omega | rfl) (by first | assumption | omega | rfl) (by first | assumption | omega | rfl)) (lw_V q2736 q2738 qs72 q122 q2739) ⟨rfl, rfl⟩ (by decide +kernel) ⟨Nat.le_of_ble_eq_true rfl, Nat.le_of_ble_eq_true rfl⟩ hP hD hS rfl hl.1 rfl (Nat.le_of_ble_eq_true rfl) ⟨Nat.zero_le _, Nat.zero_le _⟩ dX4_spare_25 (fun H locs hP hD hS => ?_)
          refine pb_if_ne (tgt := 37) hx hb dX4_spare_28 (by decide) (fun c3 => ?_) (fun c3 => ?_)
          · have hdx := pc_down_yes c2 c3
            refine lv_iload_n hx hb dX4_spare_37 rfl (lv_at hl 0 rfl) ?_
            exact pm_retI hx hb hlk hr hq hP hD hS dX4_spare_38 (by exact hdx.symm.trans hx1) rfl
          · have hdn := pc_down_lt c2
            refine lv_iinc (v := x1 + -1) (lv' := [(2, .int (x1 + -1)), (0, .ref (h 0)), (1, .int (nI k))]) hx hb dX4_spare_31 hl (k := 0) rfl rfl (by decide) rfl (fun ls hl => ?_)
            refine lv_goto (tgt := 18) hx hb dX4_spare_34 (by decide) ?_
            exact ih18 (x1 + -1) (by rw [← hx1]; exact (pc_down_no c2 c3).symm) (by omega) _ _ hP hD hS _ (lv_sub hl [0, 1, 2] rfl)
    exact hloop18 ((nI 20).toNatClampNeg + 1) (nI 20) rfl (by omega) _ _ hP hD hS _ (lv_sub hl [0, 1, 2] rfl)
  · exfalso; cases c1

set_option maxHeartbeats 4000000 in
theorem m_spare_no (l : Launch) (D : va_G) (h : Nat → Nat) (cI : ClassId) (f : Nat → Int32) (g : Nat → Nat → Int32) (B : Nat) (K : Nat) (N : Nat) (wl : List Nat) (x8 : Int32) (hI : pc_inv B (g 1) K N wl) (hx8 : pc_inr x8 (nI 0) (nI (K - 1)) = false) : pm_C l yX4_spare (ws_ yX4_spare cX4_spare 3 (some .int)) ({ frames := 2, cells := 0, slots := 0, locals := 43 } : Room) D h cI [.ref (h 0), .int (x8)] f g (some (.int (nI 0))) (va_up f 0 (nI 1)) g := by
  refine pm_enter (cc := cX4_spare) (maxL := 3) (ret := (some .int)) (by decide) (Nat.le_of_ble_eq_true rfl) ?_
  intro p e s m below meth c A Qc ls hx hb hml hown hts hlk hA hK hP hD hS hr hq hl
  have hl : lv_has ls 3 [(0, .ref (h 0)), (1, .int (x8))] := hl
  have hN := hI.N0
  have hK0 := hI.K0
  have hN8 := hI.N8
  have hK4 := hI.K4
  have hN1 := hI.N1
  have hK1 := hI.K1
  have hwt := hI.waiting
  have hln := hI.len
  refine lv_aload_n hx hb dX4_spare_0 rfl (lv_at hl 0 rfl) ?_
  refine lv_iconst (v := nI 0) hx hb dX4_spare_1 (by decide) ?_
  refine pm_put0 (f := f) (f2 := (va_up f 0 (nI 0))) hx hb hts hown hK hP hD hS (hts _ q2482) rfl dX4_spare_2 (fun H locs hP hD hS => ?_)
  refine lv_aload_n hx hb dX4_spare_5 rfl (lv_at hl 0 rfl) ?_
  refine lv_iload_n hx hb dX4_spare_6 rfl (lv_at hl 1 rfl) ?_
  refine pm_callI (n := 1) [] hx hb hml hown hts hA hK (m_noKind_no l D h cI (va_up f 0 (nI 0)) g K x8 (by first | assumption | omega | rfl) (by first | assumption | omega | rfl) (by first | assumption | omega | rfl) (by first | assumption | omega | rfl) (by first | assumption | omega | rfl)) (lw_V q2574 q2576 qs58 q122 q2577) ⟨rfl, rfl⟩ (by decide +kernel) ⟨Nat.le_of_ble_eq_true rfl, Nat.le_of_ble_eq_true rfl⟩ hP hD hS rfl hl.1 rfl (Nat.le_of_ble_eq_true rfl) ⟨Nat.zero_le _, Nat.zero_le _⟩ dX4_spare_7 (fun H locs hP hD hS => ?_)
  have hP : va_P D pc_Cl (pm_W h cI (va_up f 0 (nI 1)) g) H := hP
  have hD : va_D A (pm_W h cI (va_up f 0 (nI 1)) g) := hD
  refine pb_if_eq (tgt := 15) hx hb dX4_spare_10 (by decide) (fun c1 => ?_) (fun c1 => ?_)
  · exfalso; cases c1
  · refine lv_iconst (v := nI 0) hx hb dX4_spare_13 (by decide) ?_
    exact pm_retI hx hb hlk hr hq hP hD hS dX4_spare_14 rfl rfl

set_option maxHeartbeats 4000000 in
theorem m_sizeOf (l : Launch) (S : Nat) (hS : S < 256) : pp_C l yX4_sizeOf (ws_ yX4_sizeOf cX4_sizeOf 3 (some .int)) ({ frames := 0, cells := 0, slots := 0, locals := 0 } : Room) [.int (nI S)] (some (.int (nI (pc_size S)))) := by
  refine pp_enter (cc := cX4_sizeOf) (maxL := 3) (ret := (some .int)) (by decide) (Nat.le_of_ble_eq_true rfl) ?_
  intro p e s m below meth c Qc ls hx hb hml hown hts hlk hr hq hl
  have hl : lv_has ls 3 [(0, .int (nI S))] := hl
  refine lv_iconst (v := nI 0) hx hb dX4_sizeOf_0 (by decide) ?_
  refine lv_istore_n (lv' := [(1, .int (nI 0)), (0, .int (nI S))]) hx hb dX4_sizeOf_1 rfl hl (by decide) rfl (fun ls hl => ?_)
  refine lv_iload_n hx hb dX4_sizeOf_2 rfl (lv_at hl 1 rfl) ?_
  refine lv_istore_n (lv' := [(2, .int (nI S)), (1, .int (nI 0)), (0, .int (nI S))]) hx hb dX4_sizeOf_3 rfl hl (by decide) rfl (fun ls hl => ?_)
  have hloop4 : ∀ (n4 : Nat) (s1 : Nat) (n1 : Nat), s1 < 256 → n1 + pc_size s1 = pc_size S → s1 < n4 → ∀ ls : Array Slot, lv_has ls 3 [(1, .int (nI n1)), (2, .int (nI s1))] → W p l e ({ frames := 0, cells := 0, slots := 0, locals := 0 } : Room) s m ([.int (nI S)] : List Value).toArray below meth c s.heap [] 0 0 (MQ below Qc ([.int (nI S)] : List Value).toArray s 0 0 (fun _ => False)) (F0 m 4 ls []) := by
    intro n4
    induction n4 with
    | zero => intro s1 n1 hs1 hn1 hm; exact absurd hm (by omega)
    | succ n4 ih4 =>
      intro s1 n1 hs1 hn1 hm4 ls hl
      refine lv_iload_n hx hb dX4_sizeOf_4 rfl (lv_at hl 1 rfl) ?_
      refine pn_if_le (tgt := 21) hx hb (by omega) dX4_sizeOf_5 (by decide) (fun c1 => ?_) (fun c1 => ?_)
      · refine lv_iload_n hx hb dX4_sizeOf_21 rfl (lv_at hl 0 rfl) ?_
        exact pp_retI hx hb hlk hr hq dX4_sizeOf_22 (by rw [← hn1, c1]; rfl)
      · refine lv_iload_n hx hb dX4_sizeOf_8 rfl (lv_at hl 0 rfl) ?_
        refine lv_iload_n hx hb dX4_sizeOf_9 rfl (lv_at hl 1 rfl) ?_
        refine lv_iconst (v := nI 1) hx hb dX4_sizeOf_10 (by decide) ?_
        refine lv_iand hx hb dX4_sizeOf_11 ?_
        refine pn_top (y := nI (s1 % 2)) (pc_and1 hs1) ?_
        refine pn_iadd hx hb dX4_sizeOf_12 ?_
        refine lv_istore_n (lv' := [(1, .int (nI (n1 + (s1 % 2)))), (2, .int (nI s1))]) hx hb dX4_sizeOf_13 rfl hl (by decide) rfl (fun ls hl => ?_)
        refine lv_iload_n hx hb dX4_sizeOf_14 rfl (lv_at hl 1 rfl) ?_
        refine lv_iconst (v := nI 1) hx hb dX4_sizeOf_15 (by decide) ?_
        refine lv_ishr hx hb dX4_sizeOf_16 ?_
        refine pn_top (y := nI (s1 / 2)) (pc_half hs1) ?_
        refine lv_istore_n (lv' := [(2, .int (nI (s1 / 2))), (1, .int (nI (n1 + (s1 % 2))))]) hx hb dX4_sizeOf_17 rfl hl (by decide) rfl (fun ls hl => ?_)
        refine lv_goto (tgt := 4) hx hb dX4_sizeOf_18 (by decide) ?_
        exact ih4 (s1 / 2) (n1 + (s1 % 2)) (by first | assumption | omega) (by rw [← hn1, pc_size_step hs1]; omega) (by omega) _ (lv_sub hl [1, 0] rfl)
  exact hloop4 (S + 1) S 0 (by first | assumption | omega) (Nat.zero_add _) (by omega) _ (lv_sub hl [1, 0] rfl)

set_option maxHeartbeats 4000000 in
theorem m_countsOrders (l : Launch) (D : va_G) (h : Nat → Nat) (cI : ClassId) (f : Nat → Int32) (g : Nat → Nat → Int32) (B : Nat) (K : Nat) (N : Nat) (wl : List Nat) (hI : pc_inv B (g 1) K N wl) : pm_C l yX4_countsOrders (ws_ yX4_countsOrders cX4_countsOrders 4 none) ({ frames := 5, cells := 0, slots := 0, locals := 113 } : Room) D h cI [.ref (h 0)] f g none f (va_up g 8 (pc_ways (g 1) K N (g 8))) := by
  refine pm_enter (cc := cX4_countsOrders) (maxL := 4) (ret := none) (by decide) (Nat.le_of_ble_eq_true rfl) ?_
  intro p e s m below meth c A Qc ls hx hb hml hown hts hlk hA hK hP hD hS hr hq hl
  have hl : lv_has ls 4 [(0, .ref (h 0))] := hl
  have hN := hI.N0
  have hK0 := hI.K0
  have hN8 := hI.N8
  have hK4 := hI.K4
  have hN1 := hI.N1
  have hK1 := hI.K1
  have hwt := hI.waiting
  have hln := hI.len
  have hp2 := pc_two hN8
  have hp0 : 0 < 2 ^ N := Nat.two_pow_pos N
  refine lv_iconst (v := nI 1) hx hb dX4_countsOrders_0 (by decide) ?_
  refine lv_aload_n hx hb dX4_countsOrders_1 rfl (lv_at hl 0 rfl) ?_
  refine va_get (D := D) (ci := 0) (v := .ref (h 1)) (C := RX4) (T := TX4) (N := 22) hx hb hts in_X4 hown hK hP 0 rfl rfl 1 (by decide) (hts _ q2483) (fun _ h9 => h9) rfl dX4_countsOrders_2 ?_
  refine lv_iconst (v := nI 1) hx hb dX4_countsOrders_5 (by decide) ?_
  refine pn_iald (e9 := 1) (f := g 1) hx hb hK hP 1 0 rfl rfl (by omega) (by decide) dX4_countsOrders_6 ?_
  refine pn_top hN ?_
  refine lv_ishl hx hb dX4_countsOrders_7 ?_
  refine pn_top (y := nI (2 ^ N)) (pc_shlN hN8) ?_
  refine lv_istore_n (lv' := [(1, .int (nI (2 ^ N))), (0, .ref (h 0))]) hx hb dX4_countsOrders_8 rfl hl (by decide) rfl (fun ls hl => ?_)
  refine lv_iconst (v := nI 0) hx hb dX4_countsOrders_9 (by decide) ?_
  refine lv_istore_n (lv' := [(2, .int (nI 0)), (1, .int (nI (2 ^ N))), (0, .ref (h 0))]) hx hb dX4_countsOrders_10 rfl hl (by decide) rfl (fun ls hl => ?_)
  have eG : g = va_up g 8 (pc_zero (g 8) 0) := (pc_upself g 8)
  rw [eG] at hP hD
  have hloop11 : ∀ (n11 : Nat) (i1 : Nat), i1 ≤ 2 ^ N → 2 ^ N - i1 < n11 → ∀ (H : Heap) (locs : List Loc), va_P D pc_Cl (pm_W h cI f (va_up g 8 (pc_zero (g 8) i1))) H → va_D A (pm_W h cI f (va_up g 8 (pc_zero (g 8) i1))) → va_S A s.heap H locs → ∀ ls : Array Slot, lv_has ls 4 [(2, .int (nI i1)), (1, .int (nI (2 ^ N))), (0, .ref (h 0))] → W p l e ({ frames := 5, cells := 0, slots := 0, locals := 113 } : Room) s m ([.ref (h 0)] : List Value).toArray below meth c H locs 0 0 (MQ below Qc ([.ref (h 0)] : List Value).toArray s 0 0 A) (F0 m 11 ls []) := by
    intro n11
    induction n11 with
    | zero => intro i1 hi1 hm; exact absurd hm (by omega)
    | succ n11 ih11 =>
      intro i1 hi1 hm11 H locs hP hD hS ls hl
      refine lv_iload_n hx hb dX4_countsOrders_11 rfl (lv_at hl 0 rfl) ?_
      refine lv_iload_n hx hb dX4_countsOrders_12 rfl (lv_at hl 1 rfl) ?_
      refine pn_icmp_ge (tgt := 29) hx hb (by omega) (by omega) dX4_countsOrders_13 (by decide) (fun c1 => ?_) (fun c1 => ?_)
      · refine lv_aload_n hx hb dX4_countsOrders_29 rfl (lv_at hl 2 rfl) ?_
        refine va_get (D := D) (ci := 0) (v := .ref (h 8)) (C := RX4) (T := TX4) (N := 22) hx hb hts in_X4 hown hK hP 0 rfl rfl 8 (by decide) (hts _ q2490) (fun _ h9 => h9) rfl dX4_countsOrders_30 ?_
        refine lv_iconst (v := nI 0) hx hb dX4_countsOrders_33 (by decide) ?_
        refine lv_iconst (v := nI 1) hx hb dX4_countsOrders_34 (by decide) ?_
        refine pm_ast8 (g := (va_up g 8 (pc_zero (g 8) i1))) (g2 := (va_up g 8 (upd (pc_zero (g 8) i1) 0 (nI 1)))) (X := (pc_zero (g 8) i1)) (e9 := 0) hx hb hK hP hD hS (va_up_self _ _ _) (by omega) (bx_uu _ _ _ _) dX4_countsOrders_35 (fun H locs hP hD hS => ?_)
        refine lv_iconst (v := nI 0) hx hb dX4_countsOrders_36 (by decide) ?_
        refine lv_istore_n (lv' := [(2, .int (nI 0)), (1, .int (nI (2 ^ N))), (0, .ref (h 0))]) hx hb dX4_countsOrders_37 rfl hl (by decide) rfl (fun ls hl => ?_)
        have eG : (va_up g 8 (upd (pc_zero (g 8) i1) 0 (nI 1))) = va_up g 8 (pc_cout (g 1) K N (pc_w0 (g 8) N) 0) := (by rw [show i1 = 2 ^ N from by omega]; rfl)
        rw [eG] at hP hD
        have hloop38 : ∀ (n38 : Nat) (i2 : Nat), i2 ≤ 2 ^ N → 2 ^ N - i2 < n38 → ∀ (H : Heap) (locs : List Loc), va_P D pc_Cl (pm_W h cI f (va_up g 8 (pc_cout (g 1) K N (pc_w0 (g 8) N) i2))) H → va_D A (pm_W h cI f (va_up g 8 (pc_cout (g 1) K N (pc_w0 (g 8) N) i2))) → va_S A s.heap H locs → ∀ ls : Array Slot, lv_has ls 4 [(2, .int (nI i2)), (1, .int (nI (2 ^ N))), (0, .ref (h 0))] → W p l e ({ frames := 5, cells := 0, slots := 0, locals := 113 } : Room) s m ([.ref (h 0)] : List Value).toArray below meth c H locs 0 0 (MQ below Qc ([.ref (h 0)] : List Value).toArray s 0 0 A) (F0 m 38 ls []) := by
          intro n38
          induction n38 with
          | zero => intro i2 hi2 hm; exact absurd hm (by omega)
          | succ n38 ih38 =>
            intro i2 hi2 hm38 H locs hP hD hS ls hl
            refine lv_iload_n hx hb dX4_countsOrders_38 rfl (lv_at hl 0 rfl) ?_
            refine lv_iload_n hx hb dX4_countsOrders_39 rfl (lv_at hl 1 rfl) ?_
            refine pn_icmp_ge (tgt := 112) hx hb (by omega) (by omega) dX4_countsOrders_40 (by decide) (fun c2 => ?_) (fun c2 => ?_)
            · exact pm_retV hx hb hlk hr hq hP hD hS dX4_countsOrders_112 (by rw [show i2 = 2 ^ N from by omega]; rfl)
            · refine lv_iconst (v := nI 0) hx hb dX4_countsOrders_43 (by decide) ?_
              refine lv_istore_n (lv' := [(3, .int (nI 0)), (2, .int (nI i2)), (1, .int (nI (2 ^ N))), (0, .ref (h 0))]) hx hb dX4_countsOrders_44 rfl hl (by decide) rfl (fun ls hl => ?_)
              have eG : (va_up g 8 (pc_cout (g 1) K N (pc_w0 (g 8) N) i2)) = va_up g 8 (pc_cin (g 1) K N i2 (pc_cout (g 1) K N (pc_w0 (g 8) N) i2) 0) := rfl
              rw [eG] at hP hD
              have hloop45 : ∀ (n45 : Nat) (i3 : Nat), i3 ≤ N → (i3 = 0 ∨ ¬ pc_cout (g 1) K N (pc_w0 (g 8) N) i2 i2 ≤ 0) → N - i3 < n45 → ∀ (H : Heap) (locs : List Loc), va_P D pc_Cl (pm_W h cI f (va_up g 8 (pc_cin (g 1) K N i2 (pc_cout (g 1) K N (pc_w0 (g 8) N) i2) i3))) H → va_D A (pm_W h cI f (va_up g 8 (pc_cin (g 1) K N i2 (pc_cout (g 1) K N (pc_w0 (g 8) N) i2) i3))) → va_S A s.heap H locs → ∀ ls : Array Slot, lv_has ls 4 [(3, .int (nI i3)), (2, .int (nI i2)), (1, .int (nI (2 ^ N))), (0, .ref (h 0))] → W p l e ({ frames := 5, cells := 0, slots := 0, locals := 113 } : Room) s m ([.ref (h 0)] : List Value).toArray below meth c H locs 0 0 (MQ below Qc ([.ref (h 0)] : List Value).toArray s 0 0 A) (F0 m 45 ls []) := by
                intro n45
                induction n45 with
                | zero => intro i3 hi3 hw3 hm; exact absurd hm (by omega)
                | succ n45 ih45 =>
                  intro i3 hi3 hw3 hm45 H locs hP hD hS ls hl
                  refine lv_iload_n hx hb dX4_countsOrders_45 rfl (lv_at hl 0 rfl) ?_
                  refine lv_aload_n hx hb dX4_countsOrders_46 rfl (lv_at hl 3 rfl) ?_
                  refine va_get (D := D) (ci := 0) (v := .ref (h 1)) (C := RX4) (T := TX4) (N := 22) hx hb hts in_X4 hown hK hP 0 rfl rfl 1 (by decide) (hts _ q2483) (fun _ h9 => h9) rfl dX4_countsOrders_47 ?_
                  refine lv_iconst (v := nI 1) hx hb dX4_countsOrders_50 (by decide) ?_
                  refine pn_iald (e9 := 1) (f := g 1) hx hb hK hP 1 0 rfl rfl (by omega) (by decide) dX4_countsOrders_51 ?_
                  refine pn_top hN ?_
                  refine pn_icmp_ge (tgt := 106) hx hb (by omega) (by omega) dX4_countsOrders_52 (by decide) (fun c3 => ?_) (fun c3 => ?_)
                  · have hG3 := pc_cout_N (by omega : i3 = N) (hw3.resolve_left (by omega))
                    refine lv_iinc (v := nI (i2 + 1)) (lv' := [(2, .int (nI (i2 + 1))), (3, .int (nI i3)), (1, .int (nI (2 ^ N))), (0, .ref (h 0))]) hx hb dX4_countsOrders_106 hl (k := 1) rfl (nI_1 _) (by decide) rfl (fun ls hl => ?_)
                    refine lv_goto (tgt := 38) hx hb dX4_countsOrders_109 (by decide) ?_
                    have eG : (va_up g 8 (pc_cin (g 1) K N i2 (pc_cout (g 1) K N (pc_w0 (g 8) N) i2) i3)) = va_up g 8 (pc_cout (g 1) K N (pc_w0 (g 8) N) (i2 + 1)) := (congrArg (va_up g 8) hG3)
                    rw [eG] at hP hD
                    exact ih38 (i2 + 1) (by first | assumption | omega) (by omega) _ _ hP hD hS _ (lv_sub hl [0, 2, 3] rfl)
                  · refine lv_aload_n hx hb dX4_countsOrders_55 rfl (lv_at hl 3 rfl) ?_
                    refine va_get (D := D) (ci := 0) (v := .ref (h 8)) (C := RX4) (T := TX4) (N := 22) hx hb hts in_X4 hown hK hP 0 rfl rfl 8 (by decide) (hts _ q2490) (fun _ h9 => h9) rfl dX4_countsOrders_56 ?_
                    refine lv_iload_n hx hb dX4_countsOrders_59 rfl (lv_at hl 1 rfl) ?_
                    refine pn_iald (e9 := i2) (f := (pc_cin (g 1) K N i2 (pc_cout (g 1) K N (pc_w0 (g 8) N) i2) i3)) hx hb hK hP 6 0 rfl rfl (by omega) (by decide) dX4_countsOrders_60 ?_
                    refine lv_if_le (tgt := 106) hx hb dX4_countsOrders_61 (by decide) (fun c4 => ?_) (fun c4 => ?_)
                    · have hG3 := pc_cout_0 c4 hw3
                      refine lv_iinc (v := nI (i2 + 1)) (lv' := [(2, .int (nI (i2 + 1))), (3, .int (nI i3)), (1, .int (nI (2 ^ N))), (0, .ref (h 0))]) hx hb dX4_countsOrders_106 hl (k := 1) rfl (nI_1 _) (by decide) rfl (fun ls hl => ?_)
                      refine lv_goto (tgt := 38) hx hb dX4_countsOrders_109 (by decide) ?_
                      have eG : (va_up g 8 (pc_cin (g 1) K N i2 (pc_cout (g 1) K N (pc_w0 (g 8) N) i2) i3)) = va_up g 8 (pc_cout (g 1) K N (pc_w0 (g 8) N) (i2 + 1)) := (congrArg (va_up g 8) hG3)
                      rw [eG] at hP hD
                      exact ih38 (i2 + 1) (by first | assumption | omega) (by omega) _ _ hP hD hS _ (lv_sub hl [0, 2, 3] rfl)
                    · have hw4 : ¬ pc_cout (g 1) K N (pc_w0 (g 8) N) i2 i2 ≤ 0 := fun q => c4 (by rw [pc_cin_self]; exact q)
                      refine lv_iload_n hx hb dX4_countsOrders_64 rfl (lv_at hl 1 rfl) ?_
                      refine lv_iload_n hx hb dX4_countsOrders_65 rfl (lv_at hl 0 rfl) ?_
                      refine pp_callS (n := 2) (rest := []) hx hb hml hown hts (m_has l i2 i3 (by first | assumption | omega | rfl) (by first | assumption | omega | rfl)) (lw_S q2467 q2468 q122 q2469) ⟨rfl, rfl⟩ (by decide +kernel) ⟨Nat.le_of_ble_eq_true rfl, Nat.le_of_ble_eq_true rfl⟩ rfl hl.1 rfl (Nat.le_of_ble_eq_true rfl) dX4_countsOrders_66 ⟨Nat.zero_le _, Nat.zero_le _⟩ ?_
                      refine pb_if_ne (tgt := 100) hx hb dX4_countsOrders_69 (by decide) (fun c5 => ?_) (fun c5 => ?_)
                      · refine lv_iinc (v := nI (i3 + 1)) (lv' := [(3, .int (nI (i3 + 1))), (2, .int (nI i2)), (1, .int (nI (2 ^ N))), (0, .ref (h 0))]) hx hb dX4_countsOrders_100 hl (k := 0) rfl (nI_1 _) (by decide) rfl (fun ls hl => ?_)
                        refine lv_goto (tgt := 45) hx hb dX4_countsOrders_103 (by decide) ?_
                        have eG : (va_up g 8 (pc_cin (g 1) K N i2 (pc_cout (g 1) K N (pc_w0 (g 8) N) i2) i3)) = va_up g 8 (pc_cin (g 1) K N i2 (pc_cout (g 1) K N (pc_w0 (g 8) N) i2) (i3 + 1)) := (by simp [pc_cin, c1, c2, c3, c4, c5])
                        rw [eG] at hP hD
                        exact ih45 (i3 + 1) (by first | assumption | omega) (Or.inr hw4) (by omega) _ _ hP hD hS _ (lv_sub hl [0, 1, 2, 3] rfl)
                      · refine lv_aload_n hx hb dX4_countsOrders_72 rfl (lv_at hl 3 rfl) ?_
                        refine lv_iload_n hx hb dX4_countsOrders_73 rfl (lv_at hl 0 rfl) ?_
                        refine lv_iload_n hx hb dX4_countsOrders_74 rfl (lv_at hl 1 rfl) ?_
                        refine pm_callI (n := 2) [] hx hb hml hown hts hA hK (m_fits l D h cI f (va_up g 8 (pc_cin (g 1) K N i2 (pc_cout (g 1) K N (pc_w0 (g 8) N) i2) i3)) K N i3 i2 (by first | assumption | omega | rfl) (by first | assumption | omega | rfl) (by first | assumption | omega | rfl) (by first | assumption | omega | rfl) (by first | assumption | omega | rfl) (by first | assumption | omega | rfl)) (lw_V q2470 q2472 qs54 q122 q2473) ⟨rfl, rfl⟩ (by decide +kernel) ⟨Nat.le_of_ble_eq_true rfl, Nat.le_of_ble_eq_true rfl⟩ hP hD hS rfl hl.1 rfl (Nat.le_of_ble_eq_true rfl) ⟨Nat.zero_le _, Nat.zero_le _⟩ dX4_countsOrders_75 (fun H locs hP hD hS => ?_)
                        refine pn_top (y := pc_b (pc_fits (g 1) K N i3 i2)) rfl ?_
                        refine pb_if_eq (tgt := 100) hx hb dX4_countsOrders_78 (by decide) (fun c6 => ?_) (fun c6 => ?_)
                        · refine lv_iinc (v := nI (i3 + 1)) (lv' := [(3, .int (nI (i3 + 1))), (2, .int (nI i2)), (1, .int (nI (2 ^ N))), (0, .ref (h 0))]) hx hb dX4_countsOrders_100 hl (k := 0) rfl (nI_1 _) (by decide) rfl (fun ls hl => ?_)
                          refine lv_goto (tgt := 45) hx hb dX4_countsOrders_103 (by decide) ?_
                          have eG : (va_up g 8 (pc_cin (g 1) K N i2 (pc_cout (g 1) K N (pc_w0 (g 8) N) i2) i3)) = va_up g 8 (pc_cin (g 1) K N i2 (pc_cout (g 1) K N (pc_w0 (g 8) N) i2) (i3 + 1)) := (by simp [pc_cin, c1, c2, c3, c4, c5, c6])
                          rw [eG] at hP hD
                          exact ih45 (i3 + 1) (by first | assumption | omega) (Or.inr hw4) (by omega) _ _ hP hD hS _ (lv_sub hl [0, 1, 2, 3] rfl)
                        · refine lv_aload_n hx hb dX4_countsOrders_81 rfl (lv_at hl 3 rfl) ?_
                          refine va_get (D := D) (ci := 0) (v := .ref (h 8)) (C := RX4) (T := TX4) (N := 22) hx hb hts in_X4 hown hK hP 0 rfl rfl 8 (by decide) (hts _ q2490) (fun _ h9 => h9) rfl dX4_countsOrders_82 ?_
                          refine lv_iload_n hx hb dX4_countsOrders_85 rfl (lv_at hl 1 rfl) ?_
                          refine lv_iconst (v := nI 1) hx hb dX4_countsOrders_86 (by decide) ?_
                          refine lv_iload_n hx hb dX4_countsOrders_87 rfl (lv_at hl 0 rfl) ?_
                          refine lv_ishl hx hb dX4_countsOrders_88 ?_
                          refine pn_top (y := nI (1 <<< i3)) (pc_shl1 (by omega)) ?_
                          refine lv_ior hx hb dX4_countsOrders_89 ?_
                          refine pn_top (y := nI (i2 ||| 1 <<< i3)) (pc_ior (by omega) (pc_shl1_lt (by omega))) ?_
                          refine lv_dup2_11 hx hb dX4_countsOrders_90 rfl rfl ?_
                          refine pn_iald (e9 := i2 ||| 1 <<< i3) (f := (pc_cin (g 1) K N i2 (pc_cout (g 1) K N (pc_w0 (g 8) N) i2) i3)) hx hb hK hP 6 0 rfl rfl (by have := pc_bit_lt (n := 8) (S := i2) (o := i3) (by omega) (by omega); omega) (by decide) dX4_countsOrders_91 ?_
                          refine lv_aload_n hx hb dX4_countsOrders_92 rfl (lv_at hl 3 rfl) ?_
                          refine va_get (D := D) (ci := 0) (v := .ref (h 8)) (C := RX4) (T := TX4) (N := 22) hx hb hts in_X4 hown hK hP 0 rfl rfl 8 (by decide) (hts _ q2490) (fun _ h9 => h9) rfl dX4_countsOrders_93 ?_
                          refine lv_iload_n hx hb dX4_countsOrders_96 rfl (lv_at hl 1 rfl) ?_
                          refine pn_iald (e9 := i2) (f := (pc_cin (g 1) K N i2 (pc_cout (g 1) K N (pc_w0 (g 8) N) i2) i3)) hx hb hK hP 6 0 rfl rfl (by omega) (by decide) dX4_countsOrders_97 ?_
                          refine lv_iadd hx hb dX4_countsOrders_98 ?_
                          refine pm_ast8 (g := (va_up g 8 (pc_cin (g 1) K N i2 (pc_cout (g 1) K N (pc_w0 (g 8) N) i2) i3))) (g2 := (va_up g 8 (upd (pc_cin (g 1) K N i2 (pc_cout (g 1) K N (pc_w0 (g 8) N) i2) i3) (i2 ||| 1 <<< i3) (((pc_cin (g 1) K N i2 (pc_cout (g 1) K N (pc_w0 (g 8) N) i2) i3) (i2 ||| 1 <<< i3)) + ((pc_cin (g 1) K N i2 (pc_cout (g 1) K N (pc_w0 (g 8) N) i2) i3) i2))))) (X := (pc_cin (g 1) K N i2 (pc_cout (g 1) K N (pc_w0 (g 8) N) i2) i3)) (e9 := i2 ||| 1 <<< i3) hx hb hK hP hD hS (va_up_self _ _ _) (by have := pc_bit_lt (n := 8) (S := i2) (o := i3) (by omega) (by omega); omega) (bx_uu _ _ _ _) dX4_countsOrders_99 (fun H locs hP hD hS => ?_)
                          refine lv_iinc (v := nI (i3 + 1)) (lv' := [(3, .int (nI (i3 + 1))), (2, .int (nI i2)), (1, .int (nI (2 ^ N))), (0, .ref (h 0))]) hx hb dX4_countsOrders_100 hl (k := 0) rfl (nI_1 _) (by decide) rfl (fun ls hl => ?_)
                          refine lv_goto (tgt := 45) hx hb dX4_countsOrders_103 (by decide) ?_
                          have eG : (va_up g 8 (upd (pc_cin (g 1) K N i2 (pc_cout (g 1) K N (pc_w0 (g 8) N) i2) i3) (i2 ||| 1 <<< i3) (((pc_cin (g 1) K N i2 (pc_cout (g 1) K N (pc_w0 (g 8) N) i2) i3) (i2 ||| 1 <<< i3)) + ((pc_cin (g 1) K N i2 (pc_cout (g 1) K N (pc_w0 (g 8) N) i2) i3) i2)))) = va_up g 8 (pc_cin (g 1) K N i2 (pc_cout (g 1) K N (pc_w0 (g 8) N) i2) (i3 + 1)) := (by simp [pc_cin, c1, c2, c3, c4, c5, c6])
                          rw [eG] at hP hD
                          exact ih45 (i3 + 1) (by first | assumption | omega) (Or.inr hw4) (by omega) _ _ hP hD hS _ (lv_sub hl [0, 1, 2, 3] rfl)
              exact hloop45 (N - 0 + 1) 0 (by first | assumption | omega) (Or.inl rfl) (by omega) _ _ hP hD hS _ (lv_sub hl [0, 1, 2, 3] rfl)
        exact hloop38 (2 ^ N - 0 + 1) 0 (by first | assumption | omega) (by omega) _ _ hP hD hS _ (lv_sub hl [0, 1, 2] rfl)
      · refine lv_aload_n hx hb dX4_countsOrders_16 rfl (lv_at hl 2 rfl) ?_
        refine va_get (D := D) (ci := 0) (v := .ref (h 8)) (C := RX4) (T := TX4) (N := 22) hx hb hts in_X4 hown hK hP 0 rfl rfl 8 (by decide) (hts _ q2490) (fun _ h9 => h9) rfl dX4_countsOrders_17 ?_
        refine lv_iload_n hx hb dX4_countsOrders_20 rfl (lv_at hl 0 rfl) ?_
        refine lv_iconst (v := nI 0) hx hb dX4_countsOrders_21 (by decide) ?_
        refine pm_ast8 (g := (va_up g 8 (pc_zero (g 8) i1))) (g2 := (va_up g 8 (upd (pc_zero (g 8) i1) i1 (nI 0)))) (X := (pc_zero (g 8) i1)) (e9 := i1) hx hb hK hP hD hS (va_up_self _ _ _) (by omega) (bx_uu _ _ _ _) dX4_countsOrders_22 (fun H locs hP hD hS => ?_)
        refine lv_iinc (v := nI (i1 + 1)) (lv' := [(2, .int (nI (i1 + 1))), (1, .int (nI (2 ^ N))), (0, .ref (h 0))]) hx hb dX4_countsOrders_23 hl (k := 0) rfl (nI_1 _) (by decide) rfl (fun ls hl => ?_)
        refine lv_goto (tgt := 11) hx hb dX4_countsOrders_26 (by decide) ?_
        exact ih11 (i1 + 1) (by first | assumption | omega) (by omega) _ _ hP hD hS _ (lv_sub hl [0, 1, 2] rfl)
  exact hloop11 (2 ^ N - 0 + 1) 0 (by first | assumption | omega) (by omega) _ _ hP hD hS _ (lv_sub hl [0, 1, 2] rfl)

set_option maxHeartbeats 4000000 in
theorem m_sequenceCount (l : Launch) (D : va_G) (h : Nat → Nat) (cI : ClassId) (f : Nat → Int32) (g : Nat → Nat → Int32) (B : Nat) (K : Nat) (N : Nat) (wl : List Nat) (hI : pc_inv B (g 1) K N wl) : pm_C l yX4_sequenceCount (ws_ yX4_sequenceCount cX4_sequenceCount 1 (some .int)) ({ frames := 6, cells := 0, slots := 0, locals := 136 } : Room) D h cI [.ref (h 0)] f g (some (.int ((pc_ways (g 1) K N (g 8)) (2 ^ N - 1)))) (va_up f 0 (nI 0)) (va_up g 8 (pc_ways (g 1) K N (g 8))) := by
  refine pm_enter (cc := cX4_sequenceCount) (maxL := 1) (ret := (some .int)) (by decide) (Nat.le_of_ble_eq_true rfl) ?_
  intro p e s m below meth c A Qc ls hx hb hml hown hts hlk hA hK hP hD hS hr hq hl
  have hl : lv_has ls 1 [(0, .ref (h 0))] := hl
  have hN := hI.N0
  have hK0 := hI.K0
  have hN8 := hI.N8
  have hK4 := hI.K4
  have hN1 := hI.N1
  have hK1 := hI.K1
  have hwt := hI.waiting
  have hln := hI.len
  have hp2 := pc_two hN8
  have hp0 : 0 < 2 ^ N := Nat.two_pow_pos N
  refine lv_aload_n hx hb dX4_sequenceCount_0 rfl (lv_at hl 0 rfl) ?_
  refine lv_iconst (v := nI 0) hx hb dX4_sequenceCount_1 (by decide) ?_
  refine pm_put0 (f := f) (f2 := (va_up f 0 (nI 0))) hx hb hts hown hK hP hD hS (hts _ q2482) rfl dX4_sequenceCount_2 (fun H locs hP hD hS => ?_)
  refine lv_aload_n hx hb dX4_sequenceCount_5 rfl (lv_at hl 0 rfl) ?_
  refine pm_callV (n := 0) [] hx hb hml hown hts hA hK (m_countsOrders l D h cI (va_up f 0 (nI 0)) g B K N wl hI) (lw_V q2697 q2699 qs67 q122 q2700) ⟨rfl, rfl⟩ (by decide +kernel) ⟨Nat.le_of_ble_eq_true rfl, Nat.le_of_ble_eq_true rfl⟩ hP hD hS rfl hl.1 rfl (Nat.le_of_ble_eq_true rfl) ⟨Nat.zero_le _, Nat.zero_le _⟩ dX4_sequenceCount_6 (fun H locs hP hD hS => ?_)
  have hP : va_P D pc_Cl (pm_W h cI (va_up f 0 (nI 0)) (va_up g 8 (pc_ways (g 1) K N (g 8)))) H := hP
  have hD : va_D A (pm_W h cI (va_up f 0 (nI 0)) (va_up g 8 (pc_ways (g 1) K N (g 8)))) := hD
  refine lv_aload_n hx hb dX4_sequenceCount_9 rfl (lv_at hl 0 rfl) ?_
  refine va_get (D := D) (ci := 0) (v := .ref (h 8)) (C := RX4) (T := TX4) (N := 22) hx hb hts in_X4 hown hK hP 0 rfl rfl 8 (by decide) (hts _ q2490) (fun _ h9 => h9) rfl dX4_sequenceCount_10 ?_
  refine lv_iconst (v := nI 1) hx hb dX4_sequenceCount_13 (by decide) ?_
  refine lv_aload_n hx hb dX4_sequenceCount_14 rfl (lv_at hl 0 rfl) ?_
  refine va_get (D := D) (ci := 0) (v := .ref (h 1)) (C := RX4) (T := TX4) (N := 22) hx hb hts in_X4 hown hK hP 0 rfl rfl 1 (by decide) (hts _ q2483) (fun _ h9 => h9) rfl dX4_sequenceCount_15 ?_
  refine lv_iconst (v := nI 1) hx hb dX4_sequenceCount_18 (by decide) ?_
  refine pn_iald (e9 := 1) (f := g 1) hx hb hK hP 1 0 rfl rfl (by omega) (by decide) dX4_sequenceCount_19 ?_
  refine pn_top hN ?_
  refine lv_ishl hx hb dX4_sequenceCount_20 ?_
  refine pn_top (y := nI (2 ^ N)) (pc_shlN hN8) ?_
  refine lv_iconst (v := nI 1) hx hb dX4_sequenceCount_21 (by decide) ?_
  refine pn_isub hx hb (by omega) dX4_sequenceCount_22 ?_
  refine pn_iald (e9 := (2 ^ N) - 1) (f := (pc_ways (g 1) K N (g 8))) hx hb hK hP 6 0 rfl rfl (by omega) (by decide) dX4_sequenceCount_23 ?_
  exact pm_retI hx hb hlk hr hq hP hD hS dX4_sequenceCount_24 (by rfl) rfl

set_option maxHeartbeats 4000000 in
theorem m_earliestPlace_ok (l : Launch) (D : va_G) (h : Nat → Nat) (cI : ClassId) (f : Nat → Int32) (g : Nat → Nat → Int32) (B : Nat) (K : Nat) (N : Nat) (wl : List Nat) (o : Nat) (hI : pc_inv B (g 1) K N wl) (ho : o < N) : pm_C l yX4_earliestPlace (ws_ yX4_earliestPlace cX4_earliestPlace 4 (some .int)) ({ frames := 6, cells := 0, slots := 0, locals := 136 } : Room) D h cI [.ref (h 0), .int (nI o)] f g (some (.int (nI (pc_earl (g 1) K N o (pc_ways (g 1) K N (g 8)))))) (va_up f 0 (nI 0)) (va_up g 8 (pc_ways (g 1) K N (g 8))) := by
  refine pm_enter (cc := cX4_earliestPlace) (maxL := 4) (ret := (some .int)) (by decide) (Nat.le_of_ble_eq_true rfl) ?_
  intro p e s m below meth c A Qc ls hx hb hml hown hts hlk hA hK hP hD hS hr hq hl
  have hl : lv_has ls 4 [(0, .ref (h 0)), (1, .int (nI o))] := hl
  have hN := hI.N0
  have hK0 := hI.K0
  have hN8 := hI.N8
  have hK4 := hI.K4
  have hN1 := hI.N1
  have hK1 := hI.K1
  have hwt := hI.waiting
  have hln := hI.len
  have hp2 := pc_two hN8
  have hp0 : 0 < 2 ^ N := Nat.two_pow_pos N
  refine lv_aload_n hx hb dX4_earliestPlace_0 rfl (lv_at hl 0 rfl) ?_
  refine lv_iconst (v := nI 0) hx hb dX4_earliestPlace_1 (by decide) ?_
  refine pm_put0 (f := f) (f2 := (va_up f 0 (nI 0))) hx hb hts hown hK hP hD hS (hts _ q2482) rfl dX4_earliestPlace_2 (fun H locs hP hD hS => ?_)
  refine lv_aload_n hx hb dX4_earliestPlace_5 rfl (lv_at hl 0 rfl) ?_
  refine lv_iload_n hx hb dX4_earliestPlace_6 rfl (lv_at hl 1 rfl) ?_
  refine pm_callI (n := 1) [] hx hb hml hown hts hA hK (m_noOffice_ok l D h cI (va_up f 0 (nI 0)) g N o (by first | assumption | omega | rfl) (by first | assumption | omega | rfl) (by first | assumption | omega | rfl) (by first | assumption | omega | rfl)) (lw_V q2610 q2612 qs61 q122 q2613) ⟨rfl, rfl⟩ (by decide +kernel) ⟨Nat.le_of_ble_eq_true rfl, Nat.le_of_ble_eq_true rfl⟩ hP hD hS rfl hl.1 rfl (Nat.le_of_ble_eq_true rfl) ⟨Nat.zero_le _, Nat.zero_le _⟩ dX4_earliestPlace_7 (fun H locs hP hD hS => ?_)
  refine pb_if_eq (tgt := 15) hx hb dX4_earliestPlace_10 (by decide) (fun c1 => ?_) (fun c1 => ?_)
  · refine lv_aload_n hx hb dX4_earliestPlace_15 rfl (lv_at hl 0 rfl) ?_
    refine pm_callV (n := 0) [] hx hb hml hown hts hA hK (m_countsOrders l D h cI (va_up f 0 (nI 0)) g B K N wl hI) (lw_V q2697 q2699 qs67 q122 q2700) ⟨rfl, rfl⟩ (by decide +kernel) ⟨Nat.le_of_ble_eq_true rfl, Nat.le_of_ble_eq_true rfl⟩ hP hD hS rfl hl.1 rfl (Nat.le_of_ble_eq_true rfl) ⟨Nat.zero_le _, Nat.zero_le _⟩ dX4_earliestPlace_16 (fun H locs hP hD hS => ?_)
    have hP : va_P D pc_Cl (pm_W h cI (va_up f 0 (nI 0)) (va_up g 8 (pc_ways (g 1) K N (g 8)))) H := hP
    have hD : va_D A (pm_W h cI (va_up f 0 (nI 0)) (va_up g 8 (pc_ways (g 1) K N (g 8)))) := hD
    refine lv_aload_n hx hb dX4_earliestPlace_19 rfl (lv_at hl 0 rfl) ?_
    refine va_get (D := D) (ci := 0) (v := .ref (h 1)) (C := RX4) (T := TX4) (N := 22) hx hb hts in_X4 hown hK hP 0 rfl rfl 1 (by decide) (hts _ q2483) (fun _ h9 => h9) rfl dX4_earliestPlace_20 ?_
    refine lv_iconst (v := nI 1) hx hb dX4_earliestPlace_23 (by decide) ?_
    refine pn_iald (e9 := 1) (f := g 1) hx hb hK hP 1 0 rfl rfl (by omega) (by decide) dX4_earliestPlace_24 ?_
    refine pn_top hN ?_
    refine lv_istore_n (lv' := [(2, .int (nI N)), (0, .ref (h 0)), (1, .int (nI o))]) hx hb dX4_earliestPlace_25 rfl hl (by decide) rfl (fun ls hl => ?_)
    refine lv_iconst (v := nI 0) hx hb dX4_earliestPlace_26 (by decide) ?_
    refine lv_istore_n (lv' := [(3, .int (nI 0)), (2, .int (nI N)), (0, .ref (h 0)), (1, .int (nI o))]) hx hb dX4_earliestPlace_27 rfl hl (by decide) rfl (fun ls hl => ?_)
    have hloop28 : ∀ (n28 : Nat) (i3 : Nat), i3 ≤ 2 ^ N → 2 ^ N - i3 < n28 → ∀ (H : Heap) (locs : List Loc), va_P D pc_Cl (pm_W h cI (va_up f 0 (nI 0)) (va_up g 8 (pc_ways (g 1) K N (g 8)))) H → va_D A (pm_W h cI (va_up f 0 (nI 0)) (va_up g 8 (pc_ways (g 1) K N (g 8)))) → va_S A s.heap H locs → ∀ ls : Array Slot, lv_has ls 4 [(2, .int (nI (pc_earlN (g 1) K N o (pc_ways (g 1) K N (g 8)) i3))), (3, .int (nI i3)), (0, .ref (h 0)), (1, .int (nI o))] → W p l e ({ frames := 6, cells := 0, slots := 0, locals := 136 } : Room) s m ([.ref (h 0), .int (nI o)] : List Value).toArray below meth c H locs 0 0 (MQ below Qc ([.ref (h 0), .int (nI o)] : List Value).toArray s 0 0 A) (F0 m 28 ls []) := by
      intro n28
      induction n28 with
      | zero => intro i3 hi3 hm; exact absurd hm (by omega)
      | succ n28 ih28 =>
        intro i3 hi3 hm28 H locs hP hD hS ls hl
        have heN := pc_earlN_le (g 1) K N o (pc_ways (g 1) K N (g 8)) i3
        have hsz := pc_size_le i3
        refine lv_iload_n hx hb dX4_earliestPlace_28 rfl (lv_at hl 1 rfl) ?_
        refine lv_iconst (v := nI 1) hx hb dX4_earliestPlace_29 (by decide) ?_
        refine lv_aload_n hx hb dX4_earliestPlace_30 rfl (lv_at hl 2 rfl) ?_
        refine va_get (D := D) (ci := 0) (v := .ref (h 1)) (C := RX4) (T := TX4) (N := 22) hx hb hts in_X4 hown hK hP 0 rfl rfl 1 (by decide) (hts _ q2483) (fun _ h9 => h9) rfl dX4_earliestPlace_31 ?_
        refine lv_iconst (v := nI 1) hx hb dX4_earliestPlace_34 (by decide) ?_
        refine pn_iald (e9 := 1) (f := g 1) hx hb hK hP 1 0 rfl rfl (by omega) (by decide) dX4_earliestPlace_35 ?_
        refine pn_top hN ?_
        refine lv_ishl hx hb dX4_earliestPlace_36 ?_
        refine pn_top (y := nI (2 ^ N)) (pc_shlN hN8) ?_
        refine pn_icmp_ge (tgt := 85) hx hb (by omega) (by omega) dX4_earliestPlace_37 (by decide) (fun c2 => ?_) (fun c2 => ?_)
        · refine lv_iload_n hx hb dX4_earliestPlace_85 rfl (lv_at hl 0 rfl) ?_
          exact pm_retI hx hb hlk hr hq hP hD hS dX4_earliestPlace_86 (by rw [show i3 = 2 ^ N from by omega]; rfl) rfl
        · refine lv_aload_n hx hb dX4_earliestPlace_40 rfl (lv_at hl 2 rfl) ?_
          refine va_get (D := D) (ci := 0) (v := .ref (h 8)) (C := RX4) (T := TX4) (N := 22) hx hb hts in_X4 hown hK hP 0 rfl rfl 8 (by decide) (hts _ q2490) (fun _ h9 => h9) rfl dX4_earliestPlace_41 ?_
          refine lv_iload_n hx hb dX4_earliestPlace_44 rfl (lv_at hl 1 rfl) ?_
          refine pn_iald (e9 := i3) (f := (pc_ways (g 1) K N (g 8))) hx hb hK hP 6 0 rfl rfl (by omega) (by decide) dX4_earliestPlace_45 ?_
          refine lv_if_le (tgt := 79) hx hb dX4_earliestPlace_46 (by decide) (fun c3 => ?_) (fun c3 => ?_)
          · refine lv_iinc (v := nI (i3 + 1)) (lv' := [(3, .int (nI (i3 + 1))), (2, .int (nI (pc_earlN (g 1) K N o (pc_ways (g 1) K N (g 8)) i3))), (0, .ref (h 0)), (1, .int (nI o))]) hx hb dX4_earliestPlace_79 hl (k := 1) rfl (nI_1 _) (by decide) rfl (fun ls hl => ?_)
            refine lv_goto (tgt := 28) hx hb dX4_earliestPlace_82 (by decide) ?_
            have eL : nI (pc_earlN (g 1) K N o (pc_ways (g 1) K N (g 8)) i3) = nI (pc_earlN (g 1) K N o (pc_ways (g 1) K N (g 8)) (i3 + 1)) := (by simp only [pc_earlN, pc_earlp]; first | (simp [c1, c2, c3]; done) | simp [c1, c2, c3, q71])
            rw [eL] at hl
            exact ih28 (i3 + 1) (by first | assumption | omega) (by omega) _ _ hP hD hS _ (lv_sub hl [1, 0, 2, 3] rfl)
          · refine lv_iload_n hx hb dX4_earliestPlace_49 rfl (lv_at hl 1 rfl) ?_
            refine lv_iload_n hx hb dX4_earliestPlace_50 rfl (lv_at hl 3 rfl) ?_
            refine pp_callS (n := 2) (rest := []) hx hb hml hown hts (m_has l i3 o (by first | assumption | omega | rfl) (by first | assumption | omega | rfl)) (lw_S q2467 q2468 q122 q2469) ⟨rfl, rfl⟩ (by decide +kernel) ⟨Nat.le_of_ble_eq_true rfl, Nat.le_of_ble_eq_true rfl⟩ rfl hl.1 rfl (Nat.le_of_ble_eq_true rfl) dX4_earliestPlace_51 ⟨Nat.zero_le _, Nat.zero_le _⟩ ?_
            refine pb_if_ne (tgt := 79) hx hb dX4_earliestPlace_54 (by decide) (fun c4 => ?_) (fun c4 => ?_)
            · refine lv_iinc (v := nI (i3 + 1)) (lv' := [(3, .int (nI (i3 + 1))), (2, .int (nI (pc_earlN (g 1) K N o (pc_ways (g 1) K N (g 8)) i3))), (0, .ref (h 0)), (1, .int (nI o))]) hx hb dX4_earliestPlace_79 hl (k := 1) rfl (nI_1 _) (by decide) rfl (fun ls hl => ?_)
              refine lv_goto (tgt := 28) hx hb dX4_earliestPlace_82 (by decide) ?_
              have eL : nI (pc_earlN (g 1) K N o (pc_ways (g 1) K N (g 8)) i3) = nI (pc_earlN (g 1) K N o (pc_ways (g 1) K N (g 8)) (i3 + 1)) := (by simp only [pc_earlN, pc_earlp]; first | (simp [c1, c2, c3, c4]; done) | simp [c1, c2, c3, c4, q71])
              rw [eL] at hl
              exact ih28 (i3 + 1) (by first | assumption | omega) (by omega) _ _ hP hD hS _ (lv_sub hl [1, 0, 2, 3] rfl)
            · refine lv_aload_n hx hb dX4_earliestPlace_57 rfl (lv_at hl 2 rfl) ?_
              refine lv_iload_n hx hb dX4_earliestPlace_58 rfl (lv_at hl 3 rfl) ?_
              refine lv_iload_n hx hb dX4_earliestPlace_59 rfl (lv_at hl 1 rfl) ?_
              refine pm_callI (n := 2) [] hx hb hml hown hts hA hK (m_fits l D h cI (va_up f 0 (nI 0)) (va_up g 8 (pc_ways (g 1) K N (g 8))) K N o i3 (by first | assumption | omega | rfl) (by first | assumption | omega | rfl) (by first | assumption | omega | rfl) (by first | assumption | omega | rfl) (by first | assumption | omega | rfl) (by first | assumption | omega | rfl)) (lw_V q2470 q2472 qs54 q122 q2473) ⟨rfl, rfl⟩ (by decide +kernel) ⟨Nat.le_of_ble_eq_true rfl, Nat.le_of_ble_eq_true rfl⟩ hP hD hS rfl hl.1 rfl (Nat.le_of_ble_eq_true rfl) ⟨Nat.zero_le _, Nat.zero_le _⟩ dX4_earliestPlace_60 (fun H locs hP hD hS => ?_)
              refine pn_top (y := pc_b (pc_fits (g 1) K N o i3)) rfl ?_
              refine pb_if_eq (tgt := 79) hx hb dX4_earliestPlace_63 (by decide) (fun c5 => ?_) (fun c5 => ?_)
              · refine lv_iinc (v := nI (i3 + 1)) (lv' := [(3, .int (nI (i3 + 1))), (2, .int (nI (pc_earlN (g 1) K N o (pc_ways (g 1) K N (g 8)) i3))), (0, .ref (h 0)), (1, .int (nI o))]) hx hb dX4_earliestPlace_79 hl (k := 1) rfl (nI_1 _) (by decide) rfl (fun ls hl => ?_)
                refine lv_goto (tgt := 28) hx hb dX4_earliestPlace_82 (by decide) ?_
                have eL : nI (pc_earlN (g 1) K N o (pc_ways (g 1) K N (g 8)) i3) = nI (pc_earlN (g 1) K N o (pc_ways (g 1) K N (g 8)) (i3 + 1)) := (by simp only [pc_earlN, pc_earlp]; first | (simp [c1, c2, c3, c4, c5]; done) | simp [c1, c2, c3, c4, c5, q71])
                rw [eL] at hl
                exact ih28 (i3 + 1) (by first | assumption | omega) (by omega) _ _ hP hD hS _ (lv_sub hl [1, 0, 2, 3] rfl)
              · refine lv_iload_n hx hb dX4_earliestPlace_66 rfl (lv_at hl 1 rfl) ?_
                refine pp_callS (n := 1) (rest := []) hx hb hml hown hts (m_sizeOf l i3 (by first | assumption | omega | rfl)) (lw_S q2705 q2706 q122 q2707) ⟨rfl, rfl⟩ (by decide +kernel) ⟨Nat.le_of_ble_eq_true rfl, Nat.le_of_ble_eq_true rfl⟩ rfl hl.1 rfl (Nat.le_of_ble_eq_true rfl) dX4_earliestPlace_67 ⟨Nat.zero_le _, Nat.zero_le _⟩ ?_
                refine lv_iload_n hx hb dX4_earliestPlace_70 rfl (lv_at hl 0 rfl) ?_
                refine pn_icmp_ge (tgt := 79) hx hb (by omega) (by omega) dX4_earliestPlace_71 (by decide) (fun c6 => ?_) (fun c6 => ?_)
                · have q71 := Nat.not_lt.mpr c6
                  refine lv_iinc (v := nI (i3 + 1)) (lv' := [(3, .int (nI (i3 + 1))), (2, .int (nI (pc_earlN (g 1) K N o (pc_ways (g 1) K N (g 8)) i3))), (0, .ref (h 0)), (1, .int (nI o))]) hx hb dX4_earliestPlace_79 hl (k := 1) rfl (nI_1 _) (by decide) rfl (fun ls hl => ?_)
                  refine lv_goto (tgt := 28) hx hb dX4_earliestPlace_82 (by decide) ?_
                  have eL : nI (pc_earlN (g 1) K N o (pc_ways (g 1) K N (g 8)) i3) = nI (pc_earlN (g 1) K N o (pc_ways (g 1) K N (g 8)) (i3 + 1)) := (by simp only [pc_earlN, pc_earlp]; first | (simp [c1, c2, c3, c4, c5, c6]; done) | simp [c1, c2, c3, c4, c5, c6, q71])
                  rw [eL] at hl
                  exact ih28 (i3 + 1) (by first | assumption | omega) (by omega) _ _ hP hD hS _ (lv_sub hl [1, 0, 2, 3] rfl)
                · refine lv_iload_n hx hb dX4_earliestPlace_74 rfl (lv_at hl 1 rfl) ?_
                  refine pp_callS (n := 1) (rest := []) hx hb hml hown hts (m_sizeOf l i3 (by first | assumption | omega | rfl)) (lw_S q2705 q2706 q122 q2707) ⟨rfl, rfl⟩ (by decide +kernel) ⟨Nat.le_of_ble_eq_true rfl, Nat.le_of_ble_eq_true rfl⟩ rfl hl.1 rfl (Nat.le_of_ble_eq_true rfl) dX4_earliestPlace_75 ⟨Nat.zero_le _, Nat.zero_le _⟩ ?_
                  refine lv_istore_n (lv' := [(2, .int (nI (pc_size i3))), (3, .int (nI i3)), (0, .ref (h 0)), (1, .int (nI o))]) hx hb dX4_earliestPlace_78 rfl hl (by decide) rfl (fun ls hl => ?_)
                  refine lv_iinc (v := nI (i3 + 1)) (lv' := [(3, .int (nI (i3 + 1))), (2, .int (nI (pc_size i3))), (0, .ref (h 0)), (1, .int (nI o))]) hx hb dX4_earliestPlace_79 hl (k := 1) rfl (nI_1 _) (by decide) rfl (fun ls hl => ?_)
                  refine lv_goto (tgt := 28) hx hb dX4_earliestPlace_82 (by decide) ?_
                  have eL : nI (pc_size i3) = nI (pc_earlN (g 1) K N o (pc_ways (g 1) K N (g 8)) (i3 + 1)) := (by simp only [pc_earlN, pc_earlp]; first | (simp [c1, c2, c3, c4, c5, c6]; done) | simp [c1, c2, c3, c4, c5, c6, q71])
                  rw [eL] at hl
                  exact ih28 (i3 + 1) (by first | assumption | omega) (by omega) _ _ hP hD hS _ (lv_sub hl [1, 0, 2, 3] rfl)
    exact hloop28 (2 ^ N - 0 + 1) 0 (by first | assumption | omega) (by omega) _ _ hP hD hS _ (lv_sub hl [1, 0, 2, 3] rfl)
  · exfalso; cases c1

set_option maxHeartbeats 4000000 in
theorem m_earliestPlace_no (l : Launch) (D : va_G) (h : Nat → Nat) (cI : ClassId) (f : Nat → Int32) (g : Nat → Nat → Int32) (B : Nat) (K : Nat) (N : Nat) (wl : List Nat) (x8 : Int32) (hI : pc_inv B (g 1) K N wl) (hx8 : pc_inr x8 (nI 0) (nI (N - 1)) = false) : pm_C l yX4_earliestPlace (ws_ yX4_earliestPlace cX4_earliestPlace 4 (some .int)) ({ frames := 2, cells := 0, slots := 0, locals := 43 } : Room) D h cI [.ref (h 0), .int (x8)] f g (some (.int (nI 0))) (va_up f 0 (nI 1)) g := by
  refine pm_enter (cc := cX4_earliestPlace) (maxL := 4) (ret := (some .int)) (by decide) (Nat.le_of_ble_eq_true rfl) ?_
  intro p e s m below meth c A Qc ls hx hb hml hown hts hlk hA hK hP hD hS hr hq hl
  have hl : lv_has ls 4 [(0, .ref (h 0)), (1, .int (x8))] := hl
  have hN := hI.N0
  have hK0 := hI.K0
  have hN8 := hI.N8
  have hK4 := hI.K4
  have hN1 := hI.N1
  have hK1 := hI.K1
  have hwt := hI.waiting
  have hln := hI.len
  refine lv_aload_n hx hb dX4_earliestPlace_0 rfl (lv_at hl 0 rfl) ?_
  refine lv_iconst (v := nI 0) hx hb dX4_earliestPlace_1 (by decide) ?_
  refine pm_put0 (f := f) (f2 := (va_up f 0 (nI 0))) hx hb hts hown hK hP hD hS (hts _ q2482) rfl dX4_earliestPlace_2 (fun H locs hP hD hS => ?_)
  refine lv_aload_n hx hb dX4_earliestPlace_5 rfl (lv_at hl 0 rfl) ?_
  refine lv_iload_n hx hb dX4_earliestPlace_6 rfl (lv_at hl 1 rfl) ?_
  refine pm_callI (n := 1) [] hx hb hml hown hts hA hK (m_noOffice_no l D h cI (va_up f 0 (nI 0)) g N x8 (by first | assumption | omega | rfl) (by first | assumption | omega | rfl) (by first | assumption | omega | rfl) (by first | assumption | omega | rfl) (by first | assumption | omega | rfl)) (lw_V q2610 q2612 qs61 q122 q2613) ⟨rfl, rfl⟩ (by decide +kernel) ⟨Nat.le_of_ble_eq_true rfl, Nat.le_of_ble_eq_true rfl⟩ hP hD hS rfl hl.1 rfl (Nat.le_of_ble_eq_true rfl) ⟨Nat.zero_le _, Nat.zero_le _⟩ dX4_earliestPlace_7 (fun H locs hP hD hS => ?_)
  have hP : va_P D pc_Cl (pm_W h cI (va_up f 0 (nI 1)) g) H := hP
  have hD : va_D A (pm_W h cI (va_up f 0 (nI 1)) g) := hD
  refine pb_if_eq (tgt := 15) hx hb dX4_earliestPlace_10 (by decide) (fun c1 => ?_) (fun c1 => ?_)
  · exfalso; cases c1
  · refine lv_iconst (v := nI 0) hx hb dX4_earliestPlace_13 (by decide) ?_
    exact pm_retI hx hb hlk hr hq hP hD hS dX4_earliestPlace_14 rfl rfl

set_option maxHeartbeats 4000000 in
theorem m_tries (l : Launch) (D : va_G) (h : Nat → Nat) (cI : ClassId) (f : Nat → Int32) (g : Nat → Nat → Int32) : pm_C l yX4_tries (ws_ yX4_tries cX4_tries 1 none) ({ frames := 1, cells := 0, slots := 0, locals := 25 } : Room) D h cI [.ref (h 0)] f g none f (va_up g 4 (pc_cp g 1 4 0 0 101)) := by
  refine pm_enter (cc := cX4_tries) (maxL := 1) (ret := none) (by decide) (Nat.le_of_ble_eq_true rfl) ?_
  intro p e s m below meth c A Qc ls hx hb hml hown hts hlk hA hK hP hD hS hr hq hl
  have hl : lv_has ls 1 [(0, .ref (h 0))] := hl
  refine lv_aload_n hx hb dX4_tries_0 rfl (lv_at hl 0 rfl) ?_
  refine va_get (D := D) (ci := 0) (v := .ref (h 1)) (C := RX4) (T := TX4) (N := 22) hx hb hts in_X4 hown hK hP 0 rfl rfl 1 (by decide) (hts _ q2483) (fun _ h9 => h9) rfl dX4_tries_1 ?_
  refine lv_iconst (v := nI 0) hx hb dX4_tries_4 (by decide) ?_
  refine lv_aload_n hx hb dX4_tries_5 rfl (lv_at hl 0 rfl) ?_
  refine va_get (D := D) (ci := 0) (v := .ref (h 4)) (C := RX4) (T := TX4) (N := 22) hx hb hts in_X4 hown hK hP 0 rfl rfl 4 (by decide) (hts _ q2486) (fun _ h9 => h9) rfl dX4_tries_6 ?_
  refine lv_iconst (v := nI 0) hx hb dX4_tries_9 (by decide) ?_
  refine lv_bipush (v := nI 101) hx hb dX4_tries_10 (by decide) ?_
  refine pm_callS (n := 5) [] hx hb hml hown hts hA hK (m_copies l D h cI f g 1 4 1 4 101 101 0 0 101 (fun _ => rfl) (fun _ => rfl) (fun _ _ => rfl) (by first | assumption | omega | rfl) (by first | assumption | omega | rfl) (by first | assumption | omega | rfl) (by first | assumption | omega | rfl)) (lw_S q2370 q2371 q122 q2372) ⟨rfl, rfl⟩ (by decide +kernel) ⟨Nat.le_of_ble_eq_true rfl, Nat.le_of_ble_eq_true rfl⟩ hP hD hS rfl hl.1 rfl (Nat.le_of_ble_eq_true rfl) ⟨Nat.zero_le _, Nat.zero_le _⟩ dX4_tries_12 (fun H locs hP hD hS => ?_)
  have hP : va_P D pc_Cl (pm_W h cI f (va_up g 4 (pc_cp g 1 4 0 0 101))) H := hP
  have hD : va_D A (pm_W h cI f (va_up g 4 (pc_cp g 1 4 0 0 101))) := hD
  exact pm_retV hx hb hlk hr hq hP hD hS dX4_tries_15 rfl

set_option maxHeartbeats 4000000 in
theorem m_back (l : Launch) (D : va_G) (h : Nat → Nat) (cI : ClassId) (f : Nat → Int32) (g : Nat → Nat → Int32) (x : Int32) : pm_C l yX4_back (ws_ yX4_back cX4_back 2 (some .int)) ({ frames := 1, cells := 0, slots := 0, locals := 25 } : Room) D h cI [.ref (h 0), .int (x)] f g (some (.int (x))) f (va_up g 1 (pc_cp g 4 1 0 0 101)) := by
  refine pm_enter (cc := cX4_back) (maxL := 2) (ret := (some .int)) (by decide) (Nat.le_of_ble_eq_true rfl) ?_
  intro p e s m below meth c A Qc ls hx hb hml hown hts hlk hA hK hP hD hS hr hq hl
  have hl : lv_has ls 2 [(0, .ref (h 0)), (1, .int (x))] := hl
  refine lv_aload_n hx hb dX4_back_0 rfl (lv_at hl 0 rfl) ?_
  refine va_get (D := D) (ci := 0) (v := .ref (h 4)) (C := RX4) (T := TX4) (N := 22) hx hb hts in_X4 hown hK hP 0 rfl rfl 4 (by decide) (hts _ q2486) (fun _ h9 => h9) rfl dX4_back_1 ?_
  refine lv_iconst (v := nI 0) hx hb dX4_back_4 (by decide) ?_
  refine lv_aload_n hx hb dX4_back_5 rfl (lv_at hl 0 rfl) ?_
  refine va_get (D := D) (ci := 0) (v := .ref (h 1)) (C := RX4) (T := TX4) (N := 22) hx hb hts in_X4 hown hK hP 0 rfl rfl 1 (by decide) (hts _ q2483) (fun _ h9 => h9) rfl dX4_back_6 ?_
  refine lv_iconst (v := nI 0) hx hb dX4_back_9 (by decide) ?_
  refine lv_bipush (v := nI 101) hx hb dX4_back_10 (by decide) ?_
  refine pm_callS (n := 5) [] hx hb hml hown hts hA hK (m_copies l D h cI f g 4 1 4 1 101 101 0 0 101 (fun _ => rfl) (fun _ => rfl) (fun _ _ => rfl) (by first | assumption | omega | rfl) (by first | assumption | omega | rfl) (by first | assumption | omega | rfl) (by first | assumption | omega | rfl)) (lw_S q2370 q2371 q122 q2372) ⟨rfl, rfl⟩ (by decide +kernel) ⟨Nat.le_of_ble_eq_true rfl, Nat.le_of_ble_eq_true rfl⟩ hP hD hS rfl hl.1 rfl (Nat.le_of_ble_eq_true rfl) ⟨Nat.zero_le _, Nat.zero_le _⟩ dX4_back_12 (fun H locs hP hD hS => ?_)
  have hP : va_P D pc_Cl (pm_W h cI f (va_up g 1 (pc_cp g 4 1 0 0 101))) H := hP
  have hD : va_D A (pm_W h cI f (va_up g 1 (pc_cp g 4 1 0 0 101))) := hD
  refine lv_iload_n hx hb dX4_back_15 rfl (lv_at hl 1 rfl) ?_
  exact pm_retI hx hb hlk hr hq hP hD hS dX4_back_16 rfl rfl

set_option maxHeartbeats 4000000 in
theorem m_counter (l : Launch) (D : va_G) (h : Nat → Nat) (cI : ClassId) (f : Nat → Int32) (g : Nat → Nat → Int32) (j : Nat) (hj : j < 101) : pm_C l yX4_counter (ws_ yX4_counter cX4_counter 2 (some .int)) ({ frames := 0, cells := 0, slots := 0, locals := 0 } : Room) D h cI [.ref (h 0), .int (nI j)] f g (some (.int ((g 1) j))) (va_up f 0 (nI 0)) g := by
  refine pm_enter (cc := cX4_counter) (maxL := 2) (ret := (some .int)) (by decide) (Nat.le_of_ble_eq_true rfl) ?_
  intro p e s m below meth c A Qc ls hx hb hml hown hts hlk hA hK hP hD hS hr hq hl
  have hl : lv_has ls 2 [(0, .ref (h 0)), (1, .int (nI j))] := hl
  refine lv_aload_n hx hb dX4_counter_0 rfl (lv_at hl 0 rfl) ?_
  refine lv_iconst (v := nI 0) hx hb dX4_counter_1 (by decide) ?_
  refine pm_put0 (f := f) (f2 := (va_up f 0 (nI 0))) hx hb hts hown hK hP hD hS (hts _ q2482) rfl dX4_counter_2 (fun H locs hP hD hS => ?_)
  refine lv_aload_n hx hb dX4_counter_5 rfl (lv_at hl 0 rfl) ?_
  refine va_get (D := D) (ci := 0) (v := .ref (h 1)) (C := RX4) (T := TX4) (N := 22) hx hb hts in_X4 hown hK hP 0 rfl rfl 1 (by decide) (hts _ q2483) (fun _ h9 => h9) rfl dX4_counter_6 ?_
  refine lv_iload_n hx hb dX4_counter_9 rfl (lv_at hl 1 rfl) ?_
  refine pn_iald (e9 := j) (f := g 1) hx hb hK hP 1 0 rfl rfl (by omega) (by decide) dX4_counter_10 ?_
  exact pm_retI hx hb hlk hr hq hP hD hS dX4_counter_11 rfl rfl

set_option maxHeartbeats 4000000 in
theorem m_grantedRequests (l : Launch) (D : va_G) (h : Nat → Nat) (cI : ClassId) (f : Nat → Int32) (g : Nat → Nat → Int32) : pm_C l yX4_grantedRequests (ws_ yX4_grantedRequests cX4_grantedRequests 1 (some .int)) ({ frames := 1, cells := 0, slots := 0, locals := 21 } : Room) D h cI [.ref (h 0)] f g (some (.int ((g 1) 4))) (va_up f 0 (nI 0)) g := by
  refine pm_enter (cc := cX4_grantedRequests) (maxL := 1) (ret := (some .int)) (by decide) (Nat.le_of_ble_eq_true rfl) ?_
  intro p e s m below meth c A Qc ls hx hb hml hown hts hlk hA hK hP hD hS hr hq hl
  have hl : lv_has ls 1 [(0, .ref (h 0))] := hl
  refine lv_aload_n hx hb dX4_grantedRequests_0 rfl (lv_at hl 0 rfl) ?_
  refine lv_iconst (v := nI 4) hx hb dX4_grantedRequests_1 (by decide) ?_
  refine pm_callI (n := 1) [] hx hb hml hown hts hA hK (m_counter l D h cI f g 4 (by first | assumption | omega | rfl)) (lw_V q2776 q2778 qs80 q122 q2779) ⟨rfl, rfl⟩ (by decide +kernel) ⟨Nat.le_of_ble_eq_true rfl, Nat.le_of_ble_eq_true rfl⟩ hP hD hS rfl hl.1 rfl (Nat.le_of_ble_eq_true rfl) ⟨Nat.zero_le _, Nat.zero_le _⟩ dX4_grantedRequests_2 (fun H locs hP hD hS => ?_)
  have hP : va_P D pc_Cl (pm_W h cI (va_up f 0 (nI 0)) g) H := hP
  have hD : va_D A (pm_W h cI (va_up f 0 (nI 0)) g) := hD
  exact pm_retI hx hb hlk hr hq hP hD hS dX4_grantedRequests_5 rfl rfl

set_option maxHeartbeats 4000000 in
theorem m_delayedRequests (l : Launch) (D : va_G) (h : Nat → Nat) (cI : ClassId) (f : Nat → Int32) (g : Nat → Nat → Int32) : pm_C l yX4_delayedRequests (ws_ yX4_delayedRequests cX4_delayedRequests 1 (some .int)) ({ frames := 1, cells := 0, slots := 0, locals := 21 } : Room) D h cI [.ref (h 0)] f g (some (.int ((g 1) 5))) (va_up f 0 (nI 0)) g := by
  refine pm_enter (cc := cX4_delayedRequests) (maxL := 1) (ret := (some .int)) (by decide) (Nat.le_of_ble_eq_true rfl) ?_
  intro p e s m below meth c A Qc ls hx hb hml hown hts hlk hA hK hP hD hS hr hq hl
  have hl : lv_has ls 1 [(0, .ref (h 0))] := hl
  refine lv_aload_n hx hb dX4_delayedRequests_0 rfl (lv_at hl 0 rfl) ?_
  refine lv_iconst (v := nI 5) hx hb dX4_delayedRequests_1 (by decide) ?_
  refine pm_callI (n := 1) [] hx hb hml hown hts hA hK (m_counter l D h cI f g 5 (by first | assumption | omega | rfl)) (lw_V q2776 q2778 qs80 q122 q2779) ⟨rfl, rfl⟩ (by decide +kernel) ⟨Nat.le_of_ble_eq_true rfl, Nat.le_of_ble_eq_true rfl⟩ hP hD hS rfl hl.1 rfl (Nat.le_of_ble_eq_true rfl) ⟨Nat.zero_le _, Nat.zero_le _⟩ dX4_delayedRequests_2 (fun H locs hP hD hS => ?_)
  have hP : va_P D pc_Cl (pm_W h cI (va_up f 0 (nI 0)) g) H := hP
  have hD : va_D A (pm_W h cI (va_up f 0 (nI 0)) g) := hD
  exact pm_retI hx hb hlk hr hq hP hD hS dX4_delayedRequests_5 rfl rfl

set_option maxHeartbeats 4000000 in
theorem m_unsafeRequests (l : Launch) (D : va_G) (h : Nat → Nat) (cI : ClassId) (f : Nat → Int32) (g : Nat → Nat → Int32) : pm_C l yX4_unsafeRequests (ws_ yX4_unsafeRequests cX4_unsafeRequests 1 (some .int)) ({ frames := 1, cells := 0, slots := 0, locals := 21 } : Room) D h cI [.ref (h 0)] f g (some (.int ((g 1) 6))) (va_up f 0 (nI 0)) g := by
  refine pm_enter (cc := cX4_unsafeRequests) (maxL := 1) (ret := (some .int)) (by decide) (Nat.le_of_ble_eq_true rfl) ?_
  intro p e s m below meth c A Qc ls hx hb hml hown hts hlk hA hK hP hD hS hr hq hl
  have hl : lv_has ls 1 [(0, .ref (h 0))] := hl
  refine lv_aload_n hx hb dX4_unsafeRequests_0 rfl (lv_at hl 0 rfl) ?_
  refine lv_bipush (v := nI 6) hx hb dX4_unsafeRequests_1 (by decide) ?_
  refine pm_callI (n := 1) [] hx hb hml hown hts hA hK (m_counter l D h cI f g 6 (by first | assumption | omega | rfl)) (lw_V q2776 q2778 qs80 q122 q2779) ⟨rfl, rfl⟩ (by decide +kernel) ⟨Nat.le_of_ble_eq_true rfl, Nat.le_of_ble_eq_true rfl⟩ hP hD hS rfl hl.1 rfl (Nat.le_of_ble_eq_true rfl) ⟨Nat.zero_le _, Nat.zero_le _⟩ dX4_unsafeRequests_3 (fun H locs hP hD hS => ?_)
  have hP : va_P D pc_Cl (pm_W h cI (va_up f 0 (nI 0)) g) H := hP
  have hD : va_D A (pm_W h cI (va_up f 0 (nI 0)) g) := hD
  exact pm_retI hx hb hlk hr hq hP hD hS dX4_unsafeRequests_6 rfl rfl

set_option maxHeartbeats 4000000 in
theorem m_grantedPrinters (l : Launch) (D : va_G) (h : Nat → Nat) (cI : ClassId) (f : Nat → Int32) (g : Nat → Nat → Int32) : pm_C l yX4_grantedPrinters (ws_ yX4_grantedPrinters cX4_grantedPrinters 1 (some .int)) ({ frames := 1, cells := 0, slots := 0, locals := 21 } : Room) D h cI [.ref (h 0)] f g (some (.int ((g 1) 7))) (va_up f 0 (nI 0)) g := by
  refine pm_enter (cc := cX4_grantedPrinters) (maxL := 1) (ret := (some .int)) (by decide) (Nat.le_of_ble_eq_true rfl) ?_
  intro p e s m below meth c A Qc ls hx hb hml hown hts hlk hA hK hP hD hS hr hq hl
  have hl : lv_has ls 1 [(0, .ref (h 0))] := hl
  refine lv_aload_n hx hb dX4_grantedPrinters_0 rfl (lv_at hl 0 rfl) ?_
  refine lv_bipush (v := nI 7) hx hb dX4_grantedPrinters_1 (by decide) ?_
  refine pm_callI (n := 1) [] hx hb hml hown hts hA hK (m_counter l D h cI f g 7 (by first | assumption | omega | rfl)) (lw_V q2776 q2778 qs80 q122 q2779) ⟨rfl, rfl⟩ (by decide +kernel) ⟨Nat.le_of_ble_eq_true rfl, Nat.le_of_ble_eq_true rfl⟩ hP hD hS rfl hl.1 rfl (Nat.le_of_ble_eq_true rfl) ⟨Nat.zero_le _, Nat.zero_le _⟩ dX4_grantedPrinters_3 (fun H locs hP hD hS => ?_)
  have hP : va_P D pc_Cl (pm_W h cI (va_up f 0 (nI 0)) g) H := hP
  have hD : va_D A (pm_W h cI (va_up f 0 (nI 0)) g) := hD
  exact pm_retI hx hb hlk hr hq hP hD hS dX4_grantedPrinters_6 rfl rfl

set_option maxHeartbeats 4000000 in
theorem m_returnedPrinters (l : Launch) (D : va_G) (h : Nat → Nat) (cI : ClassId) (f : Nat → Int32) (g : Nat → Nat → Int32) : pm_C l yX4_returnedPrinters (ws_ yX4_returnedPrinters cX4_returnedPrinters 1 (some .int)) ({ frames := 1, cells := 0, slots := 0, locals := 21 } : Room) D h cI [.ref (h 0)] f g (some (.int ((g 1) 8))) (va_up f 0 (nI 0)) g := by
  refine pm_enter (cc := cX4_returnedPrinters) (maxL := 1) (ret := (some .int)) (by decide) (Nat.le_of_ble_eq_true rfl) ?_
  intro p e s m below meth c A Qc ls hx hb hml hown hts hlk hA hK hP hD hS hr hq hl
  have hl : lv_has ls 1 [(0, .ref (h 0))] := hl
  refine lv_aload_n hx hb dX4_returnedPrinters_0 rfl (lv_at hl 0 rfl) ?_
  refine lv_bipush (v := nI 8) hx hb dX4_returnedPrinters_1 (by decide) ?_
  refine pm_callI (n := 1) [] hx hb hml hown hts hA hK (m_counter l D h cI f g 8 (by first | assumption | omega | rfl)) (lw_V q2776 q2778 qs80 q122 q2779) ⟨rfl, rfl⟩ (by decide +kernel) ⟨Nat.le_of_ble_eq_true rfl, Nat.le_of_ble_eq_true rfl⟩ hP hD hS rfl hl.1 rfl (Nat.le_of_ble_eq_true rfl) ⟨Nat.zero_le _, Nat.zero_le _⟩ dX4_returnedPrinters_3 (fun H locs hP hD hS => ?_)
  have hP : va_P D pc_Cl (pm_W h cI (va_up f 0 (nI 0)) g) H := hP
  have hD : va_D A (pm_W h cI (va_up f 0 (nI 0)) g) := hD
  exact pm_retI hx hb hlk hr hq hP hD hS dX4_returnedPrinters_6 rfl rfl

set_option maxHeartbeats 4000000 in
theorem m_ledgerGap (l : Launch) (D : va_G) (h : Nat → Nat) (cI : ClassId) (f : Nat → Int32) (g : Nat → Nat → Int32) (B : Nat) (K : Nat) (N : Nat) (wl : List Nat) (hI : pc_inv B (g 1) K N wl) : pm_C l yX4_ledgerGap (ws_ yX4_ledgerGap cX4_ledgerGap 1 (some .int)) ({ frames := 3, cells := 0, slots := 0, locals := 67 } : Room) D h cI [.ref (h 0)] f g (some (.int (pc_plain (pc_heldAll (g 1) K N - (g 1) 3 - (g 1) 7 + (g 1) 8)))) (va_up f 0 (nI 0)) g := by
  refine pm_enter (cc := cX4_ledgerGap) (maxL := 1) (ret := (some .int)) (by decide) (Nat.le_of_ble_eq_true rfl) ?_
  intro p e s m below meth c A Qc ls hx hb hml hown hts hlk hA hK hP hD hS hr hq hl
  have hl : lv_has ls 1 [(0, .ref (h 0))] := hl
  have hN := hI.N0
  have hK0 := hI.K0
  have hN8 := hI.N8
  have hK4 := hI.K4
  have hN1 := hI.N1
  have hK1 := hI.K1
  have hwt := hI.waiting
  have hln := hI.len
  refine lv_aload_n hx hb dX4_ledgerGap_0 rfl (lv_at hl 0 rfl) ?_
  refine lv_iconst (v := nI 0) hx hb dX4_ledgerGap_1 (by decide) ?_
  refine pm_put0 (f := f) (f2 := (va_up f 0 (nI 0))) hx hb hts hown hK hP hD hS (hts _ q2482) rfl dX4_ledgerGap_2 (fun H locs hP hD hS => ?_)
  refine lv_aload_n hx hb dX4_ledgerGap_5 rfl (lv_at hl 0 rfl) ?_
  refine pm_callI (n := 0) [] hx hb hml hown hts hA hK (m_held l D h cI (va_up f 0 (nI 0)) g K N (by first | assumption | omega | rfl) (by first | assumption | omega | rfl) (by first | assumption | omega | rfl) (by first | assumption | omega | rfl)) (lw_V q2594 q2596 qs59 q122 q2597) ⟨rfl, rfl⟩ (by decide +kernel) ⟨Nat.le_of_ble_eq_true rfl, Nat.le_of_ble_eq_true rfl⟩ hP hD hS rfl hl.1 rfl (Nat.le_of_ble_eq_true rfl) ⟨Nat.zero_le _, Nat.zero_le _⟩ dX4_ledgerGap_6 (fun H locs hP hD hS => ?_)
  refine lv_aload_n hx hb dX4_ledgerGap_9 rfl (lv_at hl 0 rfl) ?_
  refine va_get (D := D) (ci := 0) (v := .ref (h 1)) (C := RX4) (T := TX4) (N := 22) hx hb hts in_X4 hown hK hP 0 rfl rfl 1 (by decide) (hts _ q2483) (fun _ h9 => h9) rfl dX4_ledgerGap_10 ?_
  refine lv_iconst (v := nI 3) hx hb dX4_ledgerGap_13 (by decide) ?_
  refine pn_iald (e9 := 3) (f := g 1) hx hb hK hP 1 0 rfl rfl (by omega) (by decide) dX4_ledgerGap_14 ?_
  refine lv_isub hx hb dX4_ledgerGap_15 ?_
  refine lv_aload_n hx hb dX4_ledgerGap_16 rfl (lv_at hl 0 rfl) ?_
  refine va_get (D := D) (ci := 0) (v := .ref (h 1)) (C := RX4) (T := TX4) (N := 22) hx hb hts in_X4 hown hK hP 0 rfl rfl 1 (by decide) (hts _ q2483) (fun _ h9 => h9) rfl dX4_ledgerGap_17 ?_
  refine lv_bipush (v := nI 7) hx hb dX4_ledgerGap_20 (by decide) ?_
  refine pn_iald (e9 := 7) (f := g 1) hx hb hK hP 1 0 rfl rfl (by omega) (by decide) dX4_ledgerGap_22 ?_
  refine lv_isub hx hb dX4_ledgerGap_23 ?_
  refine lv_aload_n hx hb dX4_ledgerGap_24 rfl (lv_at hl 0 rfl) ?_
  refine va_get (D := D) (ci := 0) (v := .ref (h 1)) (C := RX4) (T := TX4) (N := 22) hx hb hts in_X4 hown hK hP 0 rfl rfl 1 (by decide) (hts _ q2483) (fun _ h9 => h9) rfl dX4_ledgerGap_25 ?_
  refine lv_bipush (v := nI 8) hx hb dX4_ledgerGap_28 (by decide) ?_
  refine pn_iald (e9 := 8) (f := g 1) hx hb hK hP 1 0 rfl rfl (by omega) (by decide) dX4_ledgerGap_30 ?_
  refine lv_iadd hx hb dX4_ledgerGap_31 ?_
  refine pp_callS (n := 1) (rest := []) hx hb hml hown hts (m_plain l ((((pc_heldAll (g 1) K N) - ((g 1) 3)) - ((g 1) 7)) + ((g 1) 8))) (lw_S q2800 q2801 q122 q2802) ⟨rfl, rfl⟩ (by decide +kernel) ⟨Nat.le_of_ble_eq_true rfl, Nat.le_of_ble_eq_true rfl⟩ rfl hl.1 rfl (Nat.le_of_ble_eq_true rfl) dX4_ledgerGap_32 ⟨Nat.zero_le _, Nat.zero_le _⟩ ?_
  exact pm_retI hx hb hlk hr hq hP hD hS dX4_ledgerGap_35 (by rfl) rfl

set_option maxHeartbeats 4000000 in
theorem m_wouldWake_ok (l : Launch) (D : va_G) (h : Nat → Nat) (cI : ClassId) (f : Nat → Int32) (g : Nat → Nat → Int32) (B : Nat) (K : Nat) (N : Nat) (wl : List Nat) (o : Nat) (hI : pc_inv B (g 1) K N wl) (ho : o < N) : pm_C l yX4_wouldWake (ws_ yX4_wouldWake cX4_wouldWake 2 (some .int)) ({ frames := 13, cells := 0, slots := 0, locals := 294 } : Room) D h cI [.ref (h 0), .int (nI o)] f g (some (.int (nI (pc_serve (pc_fin (g 1) o K) K N (wl.erase o)).1))) (va_up f 0 (nI 0)) (va_up (va_up g 4 (pc_cp g 1 4 0 0 101)) 1 (pc_cp (va_up (va_up g 4 (pc_cp g 1 4 0 0 101)) 1 (pc_serve (pc_fin (g 1) o K) K N (wl.erase o)).2.1) 4 1 0 0 101)) := by
  refine pm_enter (cc := cX4_wouldWake) (maxL := 2) (ret := (some .int)) (by decide) (Nat.le_of_ble_eq_true rfl) ?_
  intro p e s m below meth c A Qc ls hx hb hml hown hts hlk hA hK hP hD hS hr hq hl
  have hl : lv_has ls 2 [(0, .ref (h 0)), (1, .int (nI o))] := hl
  have hN := hI.N0
  have hK0 := hI.K0
  have hN8 := hI.N8
  have hK4 := hI.K4
  have hN1 := hI.N1
  have hK1 := hI.K1
  have hwt := hI.waiting
  have hln := hI.len
  refine lv_aload_n hx hb dX4_wouldWake_0 rfl (lv_at hl 0 rfl) ?_
  refine lv_iconst (v := nI 0) hx hb dX4_wouldWake_1 (by decide) ?_
  refine pm_put0 (f := f) (f2 := (va_up f 0 (nI 0))) hx hb hts hown hK hP hD hS (hts _ q2482) rfl dX4_wouldWake_2 (fun H locs hP hD hS => ?_)
  refine lv_aload_n hx hb dX4_wouldWake_5 rfl (lv_at hl 0 rfl) ?_
  refine lv_iload_n hx hb dX4_wouldWake_6 rfl (lv_at hl 1 rfl) ?_
  refine pm_callI (n := 1) [] hx hb hml hown hts hA hK (m_noOffice_ok l D h cI (va_up f 0 (nI 0)) g N o (by first | assumption | omega | rfl) (by first | assumption | omega | rfl) (by first | assumption | omega | rfl) (by first | assumption | omega | rfl)) (lw_V q2610 q2612 qs61 q122 q2613) ⟨rfl, rfl⟩ (by decide +kernel) ⟨Nat.le_of_ble_eq_true rfl, Nat.le_of_ble_eq_true rfl⟩ hP hD hS rfl hl.1 rfl (Nat.le_of_ble_eq_true rfl) ⟨Nat.zero_le _, Nat.zero_le _⟩ dX4_wouldWake_7 (fun H locs hP hD hS => ?_)
  refine pb_if_eq (tgt := 15) hx hb dX4_wouldWake_10 (by decide) (fun c1 => ?_) (fun c1 => ?_)
  · refine lv_aload_n hx hb dX4_wouldWake_15 rfl (lv_at hl 0 rfl) ?_
    refine pm_callV (n := 0) [] hx hb hml hown hts hA hK (m_tries l D h cI (va_up f 0 (nI 0)) g ) (lw_V q2744 q2746 qs73 q122 q2747) ⟨rfl, rfl⟩ (by decide +kernel) ⟨Nat.le_of_ble_eq_true rfl, Nat.le_of_ble_eq_true rfl⟩ hP hD hS rfl hl.1 rfl (Nat.le_of_ble_eq_true rfl) ⟨Nat.zero_le _, Nat.zero_le _⟩ dX4_wouldWake_16 (fun H locs hP hD hS => ?_)
    have hP : va_P D pc_Cl (pm_W h cI (va_up f 0 (nI 0)) (va_up g 4 (pc_cp g 1 4 0 0 101))) H := hP
    have hD : va_D A (pm_W h cI (va_up f 0 (nI 0)) (va_up g 4 (pc_cp g 1 4 0 0 101))) := hD
    refine lv_aload_n hx hb dX4_wouldWake_19 rfl (lv_at hl 0 rfl) ?_
    refine lv_aload_n hx hb dX4_wouldWake_20 rfl (lv_at hl 0 rfl) ?_
    refine lv_iload_n hx hb dX4_wouldWake_21 rfl (lv_at hl 1 rfl) ?_
    refine pm_callI (n := 1) [.ref (h 0)] hx hb hml hown hts hA hK (m_finishes l D h cI (va_up f 0 (nI 0)) (va_up g 4 (pc_cp g 1 4 0 0 101)) B K N wl o (by first | assumption | omega | rfl) (by first | assumption | omega | rfl)) (lw_V q2748 q2750 qs74 q122 q2751) ⟨rfl, rfl⟩ (by decide +kernel) ⟨Nat.le_of_ble_eq_true rfl, Nat.le_of_ble_eq_true rfl⟩ hP hD hS rfl hl.1 rfl (Nat.le_of_ble_eq_true rfl) ⟨Nat.zero_le _, Nat.zero_le _⟩ dX4_wouldWake_22 (fun H locs hP hD hS => ?_)
    have hP : va_P D pc_Cl (pm_W h cI (va_up f 0 (nI 0)) (va_up (va_up g 4 (pc_cp g 1 4 0 0 101)) 1 (pc_serve (pc_fin (g 1) o K) K N (wl.erase o)).2.1)) H := hP
    have hD : va_D A (pm_W h cI (va_up f 0 (nI 0)) (va_up (va_up g 4 (pc_cp g 1 4 0 0 101)) 1 (pc_serve (pc_fin (g 1) o K) K N (wl.erase o)).2.1)) := hD
    refine pn_top (y := nI (pc_serve (pc_fin (g 1) o K) K N (wl.erase o)).1) rfl ?_
    refine pm_callI (n := 1) [] hx hb hml hown hts hA hK (m_back l D h cI (va_up f 0 (nI 0)) (va_up (va_up g 4 (pc_cp g 1 4 0 0 101)) 1 (pc_serve (pc_fin (g 1) o K) K N (wl.erase o)).2.1) (nI (pc_serve (pc_fin (g 1) o K) K N (wl.erase o)).1)) (lw_V q2768 q2770 qs79 q122 q2771) ⟨rfl, rfl⟩ (by decide +kernel) ⟨Nat.le_of_ble_eq_true rfl, Nat.le_of_ble_eq_true rfl⟩ hP hD hS rfl hl.1 rfl (Nat.le_of_ble_eq_true rfl) ⟨Nat.zero_le _, Nat.zero_le _⟩ dX4_wouldWake_25 (fun H locs hP hD hS => ?_)
    have hP : va_P D pc_Cl (pm_W h cI (va_up f 0 (nI 0)) (va_up (va_up g 4 (pc_cp g 1 4 0 0 101)) 1 (pc_cp (va_up (va_up g 4 (pc_cp g 1 4 0 0 101)) 1 (pc_serve (pc_fin (g 1) o K) K N (wl.erase o)).2.1) 4 1 0 0 101))) H := hP
    have hD : va_D A (pm_W h cI (va_up f 0 (nI 0)) (va_up (va_up g 4 (pc_cp g 1 4 0 0 101)) 1 (pc_cp (va_up (va_up g 4 (pc_cp g 1 4 0 0 101)) 1 (pc_serve (pc_fin (g 1) o K) K N (wl.erase o)).2.1) 4 1 0 0 101))) := hD
    exact pm_retI hx hb hlk hr hq hP hD hS dX4_wouldWake_28 (by rfl) rfl
  · exfalso; cases c1

set_option maxHeartbeats 4000000 in
theorem m_wouldWake_no (l : Launch) (D : va_G) (h : Nat → Nat) (cI : ClassId) (f : Nat → Int32) (g : Nat → Nat → Int32) (B : Nat) (K : Nat) (N : Nat) (wl : List Nat) (x8 : Int32) (hI : pc_inv B (g 1) K N wl) (hx8 : pc_inr x8 (nI 0) (nI (N - 1)) = false) : pm_C l yX4_wouldWake (ws_ yX4_wouldWake cX4_wouldWake 2 (some .int)) ({ frames := 2, cells := 0, slots := 0, locals := 43 } : Room) D h cI [.ref (h 0), .int (x8)] f g (some (.int (nI 0))) (va_up f 0 (nI 1)) g := by
  refine pm_enter (cc := cX4_wouldWake) (maxL := 2) (ret := (some .int)) (by decide) (Nat.le_of_ble_eq_true rfl) ?_
  intro p e s m below meth c A Qc ls hx hb hml hown hts hlk hA hK hP hD hS hr hq hl
  have hl : lv_has ls 2 [(0, .ref (h 0)), (1, .int (x8))] := hl
  have hN := hI.N0
  have hK0 := hI.K0
  have hN8 := hI.N8
  have hK4 := hI.K4
  have hN1 := hI.N1
  have hK1 := hI.K1
  have hwt := hI.waiting
  have hln := hI.len
  refine lv_aload_n hx hb dX4_wouldWake_0 rfl (lv_at hl 0 rfl) ?_
  refine lv_iconst (v := nI 0) hx hb dX4_wouldWake_1 (by decide) ?_
  refine pm_put0 (f := f) (f2 := (va_up f 0 (nI 0))) hx hb hts hown hK hP hD hS (hts _ q2482) rfl dX4_wouldWake_2 (fun H locs hP hD hS => ?_)
  refine lv_aload_n hx hb dX4_wouldWake_5 rfl (lv_at hl 0 rfl) ?_
  refine lv_iload_n hx hb dX4_wouldWake_6 rfl (lv_at hl 1 rfl) ?_
  refine pm_callI (n := 1) [] hx hb hml hown hts hA hK (m_noOffice_no l D h cI (va_up f 0 (nI 0)) g N x8 (by first | assumption | omega | rfl) (by first | assumption | omega | rfl) (by first | assumption | omega | rfl) (by first | assumption | omega | rfl) (by first | assumption | omega | rfl)) (lw_V q2610 q2612 qs61 q122 q2613) ⟨rfl, rfl⟩ (by decide +kernel) ⟨Nat.le_of_ble_eq_true rfl, Nat.le_of_ble_eq_true rfl⟩ hP hD hS rfl hl.1 rfl (Nat.le_of_ble_eq_true rfl) ⟨Nat.zero_le _, Nat.zero_le _⟩ dX4_wouldWake_7 (fun H locs hP hD hS => ?_)
  have hP : va_P D pc_Cl (pm_W h cI (va_up f 0 (nI 1)) g) H := hP
  have hD : va_D A (pm_W h cI (va_up f 0 (nI 1)) g) := hD
  refine pb_if_eq (tgt := 15) hx hb dX4_wouldWake_10 (by decide) (fun c1 => ?_) (fun c1 => ?_)
  · exfalso; cases c1
  · refine lv_iconst (v := nI 0) hx hb dX4_wouldWake_13 (by decide) ?_
    exact pm_retI hx hb hlk hr hq hP hD hS dX4_wouldWake_14 rfl rfl

set_option maxHeartbeats 4000000 in
theorem m_request_ok (l : Launch) (D : va_G) (h : Nat → Nat) (cI : ClassId) (f : Nat → Int32) (g : Nat → Nat → Int32) (B : Nat) (K : Nat) (N : Nat) (wl : List Nat) (u : Nat) (o : Nat) (k : Nat) (x : Int32) (hI : pc_inv B (g 1) K N wl) (ho : o < N) (hk : k < K) (hu : f 6 = nI u) (hu8 : u ≤ 8) (hr9 : pc_inr x (nI 1) (nI 20) = true) (hcan : pc_can0 (g 1) o k x = true) : pm_C l yX4_request (ws_ yX4_request cX4_request 4 (some .int)) ({ frames := 13, cells := 0, slots := 0, locals := 298 } : Room) D h cI [.ref (h 0), .int (nI o), .int (nI k), .int (x)] f g (some (.int (pc_reqv (g 1) K N o k x))) (va_up (va_up f 0 (nI 0)) 6 (nI (pc_un u))) (va_up (va_up g 5 (pc_keep g u)) 1 (pc_reqr (g 1) K N o k x)) := by
  refine pm_enter (cc := cX4_request) (maxL := 4) (ret := (some .int)) (by decide) (Nat.le_of_ble_eq_true rfl) ?_
  intro p e s m below meth c A Qc ls hx hb hml hown hts hlk hA hK hP hD hS hr hq hl
  have hl : lv_has ls 4 [(0, .ref (h 0)), (1, .int (nI o)), (2, .int (nI k)), (3, .int (x))] := hl
  have hN := hI.N0
  have hK0 := hI.K0
  have hN8 := hI.N8
  have hK4 := hI.K4
  have hN1 := hI.N1
  have hK1 := hI.K1
  have hwt := hI.waiting
  have hln := hI.len
  refine lv_aload_n hx hb dX4_request_0 rfl (lv_at hl 0 rfl) ?_
  refine lv_iconst (v := nI 0) hx hb dX4_request_1 (by decide) ?_
  refine pm_put0 (f := f) (f2 := (va_up f 0 (nI 0))) hx hb hts hown hK hP hD hS (hts _ q2482) rfl dX4_request_2 (fun H locs hP hD hS => ?_)
  refine lv_aload_n hx hb dX4_request_5 rfl (lv_at hl 0 rfl) ?_
  refine lv_iload_n hx hb dX4_request_6 rfl (lv_at hl 1 rfl) ?_
  refine lv_iload_n hx hb dX4_request_7 rfl (lv_at hl 2 rfl) ?_
  refine pm_callI (n := 2) [] hx hb hml hown hts hA hK (m_noPair_ok l D h cI (va_up f 0 (nI 0)) g K N o k (by first | assumption | omega | rfl) (by first | assumption | omega | rfl) (by first | assumption | omega | rfl) (by first | assumption | omega | rfl) (by first | assumption | omega | rfl) (by first | assumption | omega | rfl) (by first | assumption | omega | rfl)) (lw_V q2606 q2608 qs60 q122 q2609) ⟨rfl, rfl⟩ (by decide +kernel) ⟨Nat.le_of_ble_eq_true rfl, Nat.le_of_ble_eq_true rfl⟩ hP hD hS rfl hl.1 rfl (Nat.le_of_ble_eq_true rfl) ⟨Nat.zero_le _, Nat.zero_le _⟩ dX4_request_8 (fun H locs hP hD hS => ?_)
  refine pb_if_ne (tgt := 29) hx hb dX4_request_11 (by decide) (fun c1 => ?_) (fun c1 => ?_)
  · exfalso; cases c1
  · refine lv_aload_n hx hb dX4_request_14 rfl (lv_at hl 0 rfl) ?_
    refine lv_iload_n hx hb dX4_request_15 rfl (lv_at hl 3 rfl) ?_
    refine lv_iconst (v := nI 1) hx hb dX4_request_16 (by decide) ?_
    refine lv_bipush (v := nI 20) hx hb dX4_request_17 (by decide) ?_
    refine pp_callS (n := 3) (rest := [.ref (h 0)]) hx hb hml hown hts (m_in_ok l x (nI 1) (nI 20) (by first | assumption | omega | rfl)) (lw_S q2363 q2364 q122 q2365) ⟨rfl, rfl⟩ (by decide +kernel) ⟨Nat.le_of_ble_eq_true rfl, Nat.le_of_ble_eq_true rfl⟩ rfl hl.1 rfl (Nat.le_of_ble_eq_true rfl) dX4_request_19 ⟨Nat.zero_le _, Nat.zero_le _⟩ ?_
    refine lv_iconst (v := nI 2) hx hb dX4_request_22 (by decide) ?_
    refine pm_callI (n := 2) [] hx hb hml hown hts hA hK (m_fails_ok l D h cI (va_up f 0 (nI 0)) g (nI 2) (by first | assumption | omega | rfl)) (lw_V q2366 q2368 qs32 q122 q2369) ⟨rfl, rfl⟩ (by decide +kernel) ⟨Nat.le_of_ble_eq_true rfl, Nat.le_of_ble_eq_true rfl⟩ hP hD hS rfl hl.1 rfl (Nat.le_of_ble_eq_true rfl) ⟨Nat.zero_le _, Nat.zero_le _⟩ dX4_request_23 (fun H locs hP hD hS => ?_)
    refine pb_if_eq (tgt := 33) hx hb dX4_request_26 (by decide) (fun c2 => ?_) (fun c2 => ?_)
    · refine lv_aload_n hx hb dX4_request_33 rfl (lv_at hl 0 rfl) ?_
      refine lv_iconst (v := nI 0) hx hb dX4_request_34 (by decide) ?_
      refine lv_iload_n hx hb dX4_request_35 rfl (lv_at hl 1 rfl) ?_
      refine lv_iload_n hx hb dX4_request_36 rfl (lv_at hl 2 rfl) ?_
      refine lv_iload_n hx hb dX4_request_37 rfl (lv_at hl 3 rfl) ?_
      refine lv_iconst (v := nI 3) hx hb dX4_request_38 (by decide) ?_
      refine pm_callI (n := 5) [] hx hb hml hown hts hA hK (m_operates0_ok l D h cI (va_up f 0 (nI 0)) g B K N wl 3 u o k x (by first | assumption | omega | rfl) (by first | assumption | omega | rfl) (by first | assumption | omega | rfl) (by first | assumption | omega | rfl) (by first | assumption | omega | rfl) (by first | assumption | omega | rfl) (by first | assumption | omega | rfl)) (lw_V q2807 q2809 qs81 q122 q2810) ⟨rfl, rfl⟩ (by decide +kernel) ⟨Nat.le_of_ble_eq_true rfl, Nat.le_of_ble_eq_true rfl⟩ hP hD hS rfl hl.1 rfl (Nat.le_of_ble_eq_true rfl) ⟨Nat.zero_le _, Nat.zero_le _⟩ dX4_request_39 (fun H locs hP hD hS => ?_)
      have hP : va_P D pc_Cl (pm_W h cI (va_up (va_up f 0 (nI 0)) 6 (nI (pc_un u))) (va_up (va_up g 5 (pc_keep g u)) 1 (pc_reqr (g 1) K N o k x))) H := hP
      have hD : va_D A (pm_W h cI (va_up (va_up f 0 (nI 0)) 6 (nI (pc_un u))) (va_up (va_up g 5 (pc_keep g u)) 1 (pc_reqr (g 1) K N o k x))) := hD
      exact pm_retI hx hb hlk hr hq hP hD hS dX4_request_42 rfl rfl
    · exfalso; cases c2

set_option maxHeartbeats 4000000 in
theorem m_request_st (l : Launch) (D : va_G) (h : Nat → Nat) (cI : ClassId) (f : Nat → Int32) (g : Nat → Nat → Int32) (B : Nat) (K : Nat) (N : Nat) (wl : List Nat) (o : Nat) (k : Nat) (x : Int32) (hI : pc_inv B (g 1) K N wl) (ho : o < N) (hk : k < K) (hr9 : pc_inr x (nI 1) (nI 20) = true) (hcan : pc_can0 (g 1) o k x = false) : pm_C l yX4_request (ws_ yX4_request cX4_request 4 (some .int)) ({ frames := 4, cells := 0, slots := 0, locals := 93 } : Room) D h cI [.ref (h 0), .int (nI o), .int (nI k), .int (x)] f g (some (.int (nI 0))) (va_up f 0 (nI 3)) g := by
  refine pm_enter (cc := cX4_request) (maxL := 4) (ret := (some .int)) (by decide) (Nat.le_of_ble_eq_true rfl) ?_
  intro p e s m below meth c A Qc ls hx hb hml hown hts hlk hA hK hP hD hS hr hq hl
  have hl : lv_has ls 4 [(0, .ref (h 0)), (1, .int (nI o)), (2, .int (nI k)), (3, .int (x))] := hl
  have hN := hI.N0
  have hK0 := hI.K0
  have hN8 := hI.N8
  have hK4 := hI.K4
  have hN1 := hI.N1
  have hK1 := hI.K1
  have hwt := hI.waiting
  have hln := hI.len
  refine lv_aload_n hx hb dX4_request_0 rfl (lv_at hl 0 rfl) ?_
  refine lv_iconst (v := nI 0) hx hb dX4_request_1 (by decide) ?_
  refine pm_put0 (f := f) (f2 := (va_up f 0 (nI 0))) hx hb hts hown hK hP hD hS (hts _ q2482) rfl dX4_request_2 (fun H locs hP hD hS => ?_)
  refine lv_aload_n hx hb dX4_request_5 rfl (lv_at hl 0 rfl) ?_
  refine lv_iload_n hx hb dX4_request_6 rfl (lv_at hl 1 rfl) ?_
  refine lv_iload_n hx hb dX4_request_7 rfl (lv_at hl 2 rfl) ?_
  refine pm_callI (n := 2) [] hx hb hml hown hts hA hK (m_noPair_ok l D h cI (va_up f 0 (nI 0)) g K N o k (by first | assumption | omega | rfl) (by first | assumption | omega | rfl) (by first | assumption | omega | rfl) (by first | assumption | omega | rfl) (by first | assumption | omega | rfl) (by first | assumption | omega | rfl) (by first | assumption | omega | rfl)) (lw_V q2606 q2608 qs60 q122 q2609) ⟨rfl, rfl⟩ (by decide +kernel) ⟨Nat.le_of_ble_eq_true rfl, Nat.le_of_ble_eq_true rfl⟩ hP hD hS rfl hl.1 rfl (Nat.le_of_ble_eq_true rfl) ⟨Nat.zero_le _, Nat.zero_le _⟩ dX4_request_8 (fun H locs hP hD hS => ?_)
  refine pb_if_ne (tgt := 29) hx hb dX4_request_11 (by decide) (fun c1 => ?_) (fun c1 => ?_)
  · exfalso; cases c1
  · refine lv_aload_n hx hb dX4_request_14 rfl (lv_at hl 0 rfl) ?_
    refine lv_iload_n hx hb dX4_request_15 rfl (lv_at hl 3 rfl) ?_
    refine lv_iconst (v := nI 1) hx hb dX4_request_16 (by decide) ?_
    refine lv_bipush (v := nI 20) hx hb dX4_request_17 (by decide) ?_
    refine pp_callS (n := 3) (rest := [.ref (h 0)]) hx hb hml hown hts (m_in_ok l x (nI 1) (nI 20) (by first | assumption | omega | rfl)) (lw_S q2363 q2364 q122 q2365) ⟨rfl, rfl⟩ (by decide +kernel) ⟨Nat.le_of_ble_eq_true rfl, Nat.le_of_ble_eq_true rfl⟩ rfl hl.1 rfl (Nat.le_of_ble_eq_true rfl) dX4_request_19 ⟨Nat.zero_le _, Nat.zero_le _⟩ ?_
    refine lv_iconst (v := nI 2) hx hb dX4_request_22 (by decide) ?_
    refine pm_callI (n := 2) [] hx hb hml hown hts hA hK (m_fails_ok l D h cI (va_up f 0 (nI 0)) g (nI 2) (by first | assumption | omega | rfl)) (lw_V q2366 q2368 qs32 q122 q2369) ⟨rfl, rfl⟩ (by decide +kernel) ⟨Nat.le_of_ble_eq_true rfl, Nat.le_of_ble_eq_true rfl⟩ hP hD hS rfl hl.1 rfl (Nat.le_of_ble_eq_true rfl) ⟨Nat.zero_le _, Nat.zero_le _⟩ dX4_request_23 (fun H locs hP hD hS => ?_)
    refine pb_if_eq (tgt := 33) hx hb dX4_request_26 (by decide) (fun c2 => ?_) (fun c2 => ?_)
    · refine lv_aload_n hx hb dX4_request_33 rfl (lv_at hl 0 rfl) ?_
      refine lv_iconst (v := nI 0) hx hb dX4_request_34 (by decide) ?_
      refine lv_iload_n hx hb dX4_request_35 rfl (lv_at hl 1 rfl) ?_
      refine lv_iload_n hx hb dX4_request_36 rfl (lv_at hl 2 rfl) ?_
      refine lv_iload_n hx hb dX4_request_37 rfl (lv_at hl 3 rfl) ?_
      refine lv_iconst (v := nI 3) hx hb dX4_request_38 (by decide) ?_
      refine pm_callI (n := 5) [] hx hb hml hown hts hA hK (m_operates0_no l D h cI (va_up f 0 (nI 0)) g K N 3 o k x (by first | assumption | omega | rfl) (by first | assumption | omega | rfl) (by first | assumption | omega | rfl) (by first | assumption | omega | rfl) (by first | assumption | omega | rfl) (by first | assumption | omega | rfl) (by first | assumption | omega | rfl) (by first | assumption | omega | rfl) (by first | assumption | omega | rfl) (by first | assumption | omega | rfl)) (lw_V q2807 q2809 qs81 q122 q2810) ⟨rfl, rfl⟩ (by decide +kernel) ⟨Nat.le_of_ble_eq_true rfl, Nat.le_of_ble_eq_true rfl⟩ hP hD hS rfl hl.1 rfl (Nat.le_of_ble_eq_true rfl) ⟨Nat.zero_le _, Nat.zero_le _⟩ dX4_request_39 (fun H locs hP hD hS => ?_)
      have hP : va_P D pc_Cl (pm_W h cI (va_up f 0 (nI 3)) g) H := hP
      have hD : va_D A (pm_W h cI (va_up f 0 (nI 3)) g) := hD
      exact pm_retI hx hb hlk hr hq hP hD hS dX4_request_42 rfl rfl
    · exfalso; cases c2

set_option maxHeartbeats 4000000 in
theorem m_request_nr (l : Launch) (D : va_G) (h : Nat → Nat) (cI : ClassId) (f : Nat → Int32) (g : Nat → Nat → Int32) (B : Nat) (K : Nat) (N : Nat) (wl : List Nat) (o : Nat) (k : Nat) (x : Int32) (hI : pc_inv B (g 1) K N wl) (ho : o < N) (hk : k < K) (hr9 : pc_inr x (nI 1) (nI 20) = false) : pm_C l yX4_request (ws_ yX4_request cX4_request 4 (some .int)) ({ frames := 3, cells := 0, slots := 0, locals := 65 } : Room) D h cI [.ref (h 0), .int (nI o), .int (nI k), .int (x)] f g (some (.int (nI 0))) (va_up f 0 (nI 2)) g := by
  refine pm_enter (cc := cX4_request) (maxL := 4) (ret := (some .int)) (by decide) (Nat.le_of_ble_eq_true rfl) ?_
  intro p e s m below meth c A Qc ls hx hb hml hown hts hlk hA hK hP hD hS hr hq hl
  have hl : lv_has ls 4 [(0, .ref (h 0)), (1, .int (nI o)), (2, .int (nI k)), (3, .int (x))] := hl
  have hN := hI.N0
  have hK0 := hI.K0
  have hN8 := hI.N8
  have hK4 := hI.K4
  have hN1 := hI.N1
  have hK1 := hI.K1
  have hwt := hI.waiting
  have hln := hI.len
  refine lv_aload_n hx hb dX4_request_0 rfl (lv_at hl 0 rfl) ?_
  refine lv_iconst (v := nI 0) hx hb dX4_request_1 (by decide) ?_
  refine pm_put0 (f := f) (f2 := (va_up f 0 (nI 0))) hx hb hts hown hK hP hD hS (hts _ q2482) rfl dX4_request_2 (fun H locs hP hD hS => ?_)
  refine lv_aload_n hx hb dX4_request_5 rfl (lv_at hl 0 rfl) ?_
  refine lv_iload_n hx hb dX4_request_6 rfl (lv_at hl 1 rfl) ?_
  refine lv_iload_n hx hb dX4_request_7 rfl (lv_at hl 2 rfl) ?_
  refine pm_callI (n := 2) [] hx hb hml hown hts hA hK (m_noPair_ok l D h cI (va_up f 0 (nI 0)) g K N o k (by first | assumption | omega | rfl) (by first | assumption | omega | rfl) (by first | assumption | omega | rfl) (by first | assumption | omega | rfl) (by first | assumption | omega | rfl) (by first | assumption | omega | rfl) (by first | assumption | omega | rfl)) (lw_V q2606 q2608 qs60 q122 q2609) ⟨rfl, rfl⟩ (by decide +kernel) ⟨Nat.le_of_ble_eq_true rfl, Nat.le_of_ble_eq_true rfl⟩ hP hD hS rfl hl.1 rfl (Nat.le_of_ble_eq_true rfl) ⟨Nat.zero_le _, Nat.zero_le _⟩ dX4_request_8 (fun H locs hP hD hS => ?_)
  refine pb_if_ne (tgt := 29) hx hb dX4_request_11 (by decide) (fun c1 => ?_) (fun c1 => ?_)
  · exfalso; cases c1
  · refine lv_aload_n hx hb dX4_request_14 rfl (lv_at hl 0 rfl) ?_
    refine lv_iload_n hx hb dX4_request_15 rfl (lv_at hl 3 rfl) ?_
    refine lv_iconst (v := nI 1) hx hb dX4_request_16 (by decide) ?_
    refine lv_bipush (v := nI 20) hx hb dX4_request_17 (by decide) ?_
    refine pp_callS (n := 3) (rest := [.ref (h 0)]) hx hb hml hown hts (m_in_no l x (nI 1) (nI 20) (by first | assumption | omega | rfl)) (lw_S q2363 q2364 q122 q2365) ⟨rfl, rfl⟩ (by decide +kernel) ⟨Nat.le_of_ble_eq_true rfl, Nat.le_of_ble_eq_true rfl⟩ rfl hl.1 rfl (Nat.le_of_ble_eq_true rfl) dX4_request_19 ⟨Nat.zero_le _, Nat.zero_le _⟩ ?_
    refine lv_iconst (v := nI 2) hx hb dX4_request_22 (by decide) ?_
    refine pm_callI (n := 2) [] hx hb hml hown hts hA hK (m_fails_no l D h cI (va_up f 0 (nI 0)) g 2 (by first | assumption | omega | rfl) (by first | assumption | omega | rfl) (by first | assumption | omega | rfl)) (lw_V q2366 q2368 qs32 q122 q2369) ⟨rfl, rfl⟩ (by decide +kernel) ⟨Nat.le_of_ble_eq_true rfl, Nat.le_of_ble_eq_true rfl⟩ hP hD hS rfl hl.1 rfl (Nat.le_of_ble_eq_true rfl) ⟨Nat.zero_le _, Nat.zero_le _⟩ dX4_request_23 (fun H locs hP hD hS => ?_)
    have hP : va_P D pc_Cl (pm_W h cI (va_up f 0 (nI 2)) g) H := hP
    have hD : va_D A (pm_W h cI (va_up f 0 (nI 2)) g) := hD
    refine pb_if_eq (tgt := 33) hx hb dX4_request_26 (by decide) (fun c2 => ?_) (fun c2 => ?_)
    · exfalso; cases c2
    · refine lv_iconst (v := nI 0) hx hb dX4_request_29 (by decide) ?_
      refine lv_goto (tgt := 42) hx hb dX4_request_30 (by decide) ?_
      exact pm_retI hx hb hlk hr hq hP hD hS dX4_request_42 rfl rfl

set_option maxHeartbeats 4000000 in
theorem m_request_no (l : Launch) (D : va_G) (h : Nat → Nat) (cI : ClassId) (f : Nat → Int32) (g : Nat → Nat → Int32) (B : Nat) (K : Nat) (N : Nat) (wl : List Nat) (x8 : Int32) (y8 : Int32) (z8 : Int32) (hI : pc_inv B (g 1) K N wl) (hx8 : pc_inr x8 (nI 0) (nI (N - 1)) = false) : pm_C l yX4_request (ws_ yX4_request cX4_request 4 (some .int)) ({ frames := 3, cells := 0, slots := 0, locals := 65 } : Room) D h cI [.ref (h 0), .int (x8), .int (y8), .int (z8)] f g (some (.int (nI 0))) (va_up f 0 (nI 1)) g := by
  refine pm_enter (cc := cX4_request) (maxL := 4) (ret := (some .int)) (by decide) (Nat.le_of_ble_eq_true rfl) ?_
  intro p e s m below meth c A Qc ls hx hb hml hown hts hlk hA hK hP hD hS hr hq hl
  have hl : lv_has ls 4 [(0, .ref (h 0)), (1, .int (x8)), (2, .int (y8)), (3, .int (z8))] := hl
  have hN := hI.N0
  have hK0 := hI.K0
  have hN8 := hI.N8
  have hK4 := hI.K4
  have hN1 := hI.N1
  have hK1 := hI.K1
  have hwt := hI.waiting
  have hln := hI.len
  refine lv_aload_n hx hb dX4_request_0 rfl (lv_at hl 0 rfl) ?_
  refine lv_iconst (v := nI 0) hx hb dX4_request_1 (by decide) ?_
  refine pm_put0 (f := f) (f2 := (va_up f 0 (nI 0))) hx hb hts hown hK hP hD hS (hts _ q2482) rfl dX4_request_2 (fun H locs hP hD hS => ?_)
  refine lv_aload_n hx hb dX4_request_5 rfl (lv_at hl 0 rfl) ?_
  refine lv_iload_n hx hb dX4_request_6 rfl (lv_at hl 1 rfl) ?_
  refine lv_iload_n hx hb dX4_request_7 rfl (lv_at hl 2 rfl) ?_
  refine pm_callI (n := 2) [] hx hb hml hown hts hA hK (m_noPair_no l D h cI (va_up f 0 (nI 0)) g N x8 y8 (by first | assumption | omega | rfl) (by first | assumption | omega | rfl) (by first | assumption | omega | rfl) (by first | assumption | omega | rfl) (by first | assumption | omega | rfl)) (lw_V q2606 q2608 qs60 q122 q2609) ⟨rfl, rfl⟩ (by decide +kernel) ⟨Nat.le_of_ble_eq_true rfl, Nat.le_of_ble_eq_true rfl⟩ hP hD hS rfl hl.1 rfl (Nat.le_of_ble_eq_true rfl) ⟨Nat.zero_le _, Nat.zero_le _⟩ dX4_request_8 (fun H locs hP hD hS => ?_)
  have hP : va_P D pc_Cl (pm_W h cI (va_up f 0 (nI 1)) g) H := hP
  have hD : va_D A (pm_W h cI (va_up f 0 (nI 1)) g) := hD
  refine pb_if_ne (tgt := 29) hx hb dX4_request_11 (by decide) (fun c1 => ?_) (fun c1 => ?_)
  · refine lv_iconst (v := nI 0) hx hb dX4_request_29 (by decide) ?_
    refine lv_goto (tgt := 42) hx hb dX4_request_30 (by decide) ?_
    exact pm_retI hx hb hlk hr hq hP hD hS dX4_request_42 rfl rfl
  · exfalso; cases c1

set_option maxHeartbeats 4000000 in
theorem m_request_nk (l : Launch) (D : va_G) (h : Nat → Nat) (cI : ClassId) (f : Nat → Int32) (g : Nat → Nat → Int32) (B : Nat) (K : Nat) (N : Nat) (wl : List Nat) (o : Nat) (y8 : Int32) (z8 : Int32) (hI : pc_inv B (g 1) K N wl) (ho : o < N) (hx8 : pc_inr y8 (nI 0) (nI (K - 1)) = false) : pm_C l yX4_request (ws_ yX4_request cX4_request 4 (some .int)) ({ frames := 3, cells := 0, slots := 0, locals := 65 } : Room) D h cI [.ref (h 0), .int (nI o), .int (y8), .int (z8)] f g (some (.int (nI 0))) (va_up f 0 (nI 1)) g := by
  refine pm_enter (cc := cX4_request) (maxL := 4) (ret := (some .int)) (by decide) (Nat.le_of_ble_eq_true rfl) ?_
  intro p e s m below meth c A Qc ls hx hb hml hown hts hlk hA hK hP hD hS hr hq hl
  have hl : lv_has ls 4 [(0, .ref (h 0)), (1, .int (nI o)), (2, .int (y8)), (3, .int (z8))] := hl
  have hN := hI.N0
  have hK0 := hI.K0
  have hN8 := hI.N8
  have hK4 := hI.K4
  have hN1 := hI.N1
  have hK1 := hI.K1
  have hwt := hI.waiting
  have hln := hI.len
  refine lv_aload_n hx hb dX4_request_0 rfl (lv_at hl 0 rfl) ?_
  refine lv_iconst (v := nI 0) hx hb dX4_request_1 (by decide) ?_
  refine pm_put0 (f := f) (f2 := (va_up f 0 (nI 0))) hx hb hts hown hK hP hD hS (hts _ q2482) rfl dX4_request_2 (fun H locs hP hD hS => ?_)
  refine lv_aload_n hx hb dX4_request_5 rfl (lv_at hl 0 rfl) ?_
  refine lv_iload_n hx hb dX4_request_6 rfl (lv_at hl 1 rfl) ?_
  refine lv_iload_n hx hb dX4_request_7 rfl (lv_at hl 2 rfl) ?_
  refine pm_callI (n := 2) [] hx hb hml hown hts hA hK (m_noPair_nk l D h cI (va_up f 0 (nI 0)) g K N o y8 (by first | assumption | omega | rfl) (by first | assumption | omega | rfl) (by first | assumption | omega | rfl) (by first | assumption | omega | rfl) (by first | assumption | omega | rfl) (by first | assumption | omega | rfl) (by first | assumption | omega | rfl) (by first | assumption | omega | rfl)) (lw_V q2606 q2608 qs60 q122 q2609) ⟨rfl, rfl⟩ (by decide +kernel) ⟨Nat.le_of_ble_eq_true rfl, Nat.le_of_ble_eq_true rfl⟩ hP hD hS rfl hl.1 rfl (Nat.le_of_ble_eq_true rfl) ⟨Nat.zero_le _, Nat.zero_le _⟩ dX4_request_8 (fun H locs hP hD hS => ?_)
  have hP : va_P D pc_Cl (pm_W h cI (va_up f 0 (nI 1)) g) H := hP
  have hD : va_D A (pm_W h cI (va_up f 0 (nI 1)) g) := hD
  refine pb_if_ne (tgt := 29) hx hb dX4_request_11 (by decide) (fun c1 => ?_) (fun c1 => ?_)
  · refine lv_iconst (v := nI 0) hx hb dX4_request_29 (by decide) ?_
    refine lv_goto (tgt := 42) hx hb dX4_request_30 (by decide) ?_
    exact pm_retI hx hb hlk hr hq hP hD hS dX4_request_42 rfl rfl
  · exfalso; cases c1

set_option maxHeartbeats 4000000 in
theorem m_release_ok (l : Launch) (D : va_G) (h : Nat → Nat) (cI : ClassId) (f : Nat → Int32) (g : Nat → Nat → Int32) (B : Nat) (K : Nat) (N : Nat) (wl : List Nat) (u : Nat) (o : Nat) (k : Nat) (x : Int32) (hI : pc_inv B (g 1) K N wl) (ho : o < N) (hk : k < K) (hu : f 6 = nI u) (hu8 : u ≤ 8) (hr9 : pc_inr x (nI 1) (nI 20) = true) (hcan : pc_can1 (g 1) o k x = true) : pm_C l yX4_release (ws_ yX4_release cX4_release 4 (some .int)) ({ frames := 15, cells := 0, slots := 0, locals := 344 } : Room) D h cI [.ref (h 0), .int (nI o), .int (nI k), .int (x)] f g (some (.int (nI (pc_serve (pc_rel (g 1) o k x) K N wl).1))) (va_up (va_up f 0 (nI 0)) 6 (nI (pc_un u))) (va_up (va_up g 5 (pc_keep g u)) 1 ((pc_serve (pc_rel (g 1) o k x) K N wl).2.1)) := by
  refine pm_enter (cc := cX4_release) (maxL := 4) (ret := (some .int)) (by decide) (Nat.le_of_ble_eq_true rfl) ?_
  intro p e s m below meth c A Qc ls hx hb hml hown hts hlk hA hK hP hD hS hr hq hl
  have hl : lv_has ls 4 [(0, .ref (h 0)), (1, .int (nI o)), (2, .int (nI k)), (3, .int (x))] := hl
  have hN := hI.N0
  have hK0 := hI.K0
  have hN8 := hI.N8
  have hK4 := hI.K4
  have hN1 := hI.N1
  have hK1 := hI.K1
  have hwt := hI.waiting
  have hln := hI.len
  refine lv_aload_n hx hb dX4_release_0 rfl (lv_at hl 0 rfl) ?_
  refine lv_iconst (v := nI 0) hx hb dX4_release_1 (by decide) ?_
  refine pm_put0 (f := f) (f2 := (va_up f 0 (nI 0))) hx hb hts hown hK hP hD hS (hts _ q2482) rfl dX4_release_2 (fun H locs hP hD hS => ?_)
  refine lv_aload_n hx hb dX4_release_5 rfl (lv_at hl 0 rfl) ?_
  refine lv_iload_n hx hb dX4_release_6 rfl (lv_at hl 1 rfl) ?_
  refine lv_iload_n hx hb dX4_release_7 rfl (lv_at hl 2 rfl) ?_
  refine pm_callI (n := 2) [] hx hb hml hown hts hA hK (m_noPair_ok l D h cI (va_up f 0 (nI 0)) g K N o k (by first | assumption | omega | rfl) (by first | assumption | omega | rfl) (by first | assumption | omega | rfl) (by first | assumption | omega | rfl) (by first | assumption | omega | rfl) (by first | assumption | omega | rfl) (by first | assumption | omega | rfl)) (lw_V q2606 q2608 qs60 q122 q2609) ⟨rfl, rfl⟩ (by decide +kernel) ⟨Nat.le_of_ble_eq_true rfl, Nat.le_of_ble_eq_true rfl⟩ hP hD hS rfl hl.1 rfl (Nat.le_of_ble_eq_true rfl) ⟨Nat.zero_le _, Nat.zero_le _⟩ dX4_release_8 (fun H locs hP hD hS => ?_)
  refine pb_if_ne (tgt := 29) hx hb dX4_release_11 (by decide) (fun c1 => ?_) (fun c1 => ?_)
  · exfalso; cases c1
  · refine lv_aload_n hx hb dX4_release_14 rfl (lv_at hl 0 rfl) ?_
    refine lv_iload_n hx hb dX4_release_15 rfl (lv_at hl 3 rfl) ?_
    refine lv_iconst (v := nI 1) hx hb dX4_release_16 (by decide) ?_
    refine lv_bipush (v := nI 20) hx hb dX4_release_17 (by decide) ?_
    refine pp_callS (n := 3) (rest := [.ref (h 0)]) hx hb hml hown hts (m_in_ok l x (nI 1) (nI 20) (by first | assumption | omega | rfl)) (lw_S q2363 q2364 q122 q2365) ⟨rfl, rfl⟩ (by decide +kernel) ⟨Nat.le_of_ble_eq_true rfl, Nat.le_of_ble_eq_true rfl⟩ rfl hl.1 rfl (Nat.le_of_ble_eq_true rfl) dX4_release_19 ⟨Nat.zero_le _, Nat.zero_le _⟩ ?_
    refine lv_iconst (v := nI 2) hx hb dX4_release_22 (by decide) ?_
    refine pm_callI (n := 2) [] hx hb hml hown hts hA hK (m_fails_ok l D h cI (va_up f 0 (nI 0)) g (nI 2) (by first | assumption | omega | rfl)) (lw_V q2366 q2368 qs32 q122 q2369) ⟨rfl, rfl⟩ (by decide +kernel) ⟨Nat.le_of_ble_eq_true rfl, Nat.le_of_ble_eq_true rfl⟩ hP hD hS rfl hl.1 rfl (Nat.le_of_ble_eq_true rfl) ⟨Nat.zero_le _, Nat.zero_le _⟩ dX4_release_23 (fun H locs hP hD hS => ?_)
    refine pb_if_eq (tgt := 33) hx hb dX4_release_26 (by decide) (fun c2 => ?_) (fun c2 => ?_)
    · refine lv_aload_n hx hb dX4_release_33 rfl (lv_at hl 0 rfl) ?_
      refine lv_iconst (v := nI 1) hx hb dX4_release_34 (by decide) ?_
      refine lv_iload_n hx hb dX4_release_35 rfl (lv_at hl 1 rfl) ?_
      refine lv_iload_n hx hb dX4_release_36 rfl (lv_at hl 2 rfl) ?_
      refine lv_iload_n hx hb dX4_release_37 rfl (lv_at hl 3 rfl) ?_
      refine lv_iconst (v := nI 3) hx hb dX4_release_38 (by decide) ?_
      refine pm_callI (n := 5) [] hx hb hml hown hts hA hK (m_operates1_ok l D h cI (va_up f 0 (nI 0)) g B K N wl 3 u o k x (by first | assumption | omega | rfl) (by first | assumption | omega | rfl) (by first | assumption | omega | rfl) (by first | assumption | omega | rfl) (by first | assumption | omega | rfl) (by first | assumption | omega | rfl) (by first | assumption | omega | rfl)) (lw_V q2807 q2809 qs81 q122 q2810) ⟨rfl, rfl⟩ (by decide +kernel) ⟨Nat.le_of_ble_eq_true rfl, Nat.le_of_ble_eq_true rfl⟩ hP hD hS rfl hl.1 rfl (Nat.le_of_ble_eq_true rfl) ⟨Nat.zero_le _, Nat.zero_le _⟩ dX4_release_39 (fun H locs hP hD hS => ?_)
      have hP : va_P D pc_Cl (pm_W h cI (va_up (va_up f 0 (nI 0)) 6 (nI (pc_un u))) (va_up (va_up g 5 (pc_keep g u)) 1 ((pc_serve (pc_rel (g 1) o k x) K N wl).2.1))) H := hP
      have hD : va_D A (pm_W h cI (va_up (va_up f 0 (nI 0)) 6 (nI (pc_un u))) (va_up (va_up g 5 (pc_keep g u)) 1 ((pc_serve (pc_rel (g 1) o k x) K N wl).2.1))) := hD
      exact pm_retI hx hb hlk hr hq hP hD hS dX4_release_42 rfl rfl
    · exfalso; cases c2

set_option maxHeartbeats 4000000 in
theorem m_release_st (l : Launch) (D : va_G) (h : Nat → Nat) (cI : ClassId) (f : Nat → Int32) (g : Nat → Nat → Int32) (B : Nat) (K : Nat) (N : Nat) (wl : List Nat) (o : Nat) (k : Nat) (x : Int32) (hI : pc_inv B (g 1) K N wl) (ho : o < N) (hk : k < K) (hr9 : pc_inr x (nI 1) (nI 20) = true) (hcan : pc_can1 (g 1) o k x = false) : pm_C l yX4_release (ws_ yX4_release cX4_release 4 (some .int)) ({ frames := 3, cells := 0, slots := 0, locals := 71 } : Room) D h cI [.ref (h 0), .int (nI o), .int (nI k), .int (x)] f g (some (.int (nI 0))) (va_up f 0 (nI 3)) g := by
  refine pm_enter (cc := cX4_release) (maxL := 4) (ret := (some .int)) (by decide) (Nat.le_of_ble_eq_true rfl) ?_
  intro p e s m below meth c A Qc ls hx hb hml hown hts hlk hA hK hP hD hS hr hq hl
  have hl : lv_has ls 4 [(0, .ref (h 0)), (1, .int (nI o)), (2, .int (nI k)), (3, .int (x))] := hl
  have hN := hI.N0
  have hK0 := hI.K0
  have hN8 := hI.N8
  have hK4 := hI.K4
  have hN1 := hI.N1
  have hK1 := hI.K1
  have hwt := hI.waiting
  have hln := hI.len
  refine lv_aload_n hx hb dX4_release_0 rfl (lv_at hl 0 rfl) ?_
  refine lv_iconst (v := nI 0) hx hb dX4_release_1 (by decide) ?_
  refine pm_put0 (f := f) (f2 := (va_up f 0 (nI 0))) hx hb hts hown hK hP hD hS (hts _ q2482) rfl dX4_release_2 (fun H locs hP hD hS => ?_)
  refine lv_aload_n hx hb dX4_release_5 rfl (lv_at hl 0 rfl) ?_
  refine lv_iload_n hx hb dX4_release_6 rfl (lv_at hl 1 rfl) ?_
  refine lv_iload_n hx hb dX4_release_7 rfl (lv_at hl 2 rfl) ?_
  refine pm_callI (n := 2) [] hx hb hml hown hts hA hK (m_noPair_ok l D h cI (va_up f 0 (nI 0)) g K N o k (by first | assumption | omega | rfl) (by first | assumption | omega | rfl) (by first | assumption | omega | rfl) (by first | assumption | omega | rfl) (by first | assumption | omega | rfl) (by first | assumption | omega | rfl) (by first | assumption | omega | rfl)) (lw_V q2606 q2608 qs60 q122 q2609) ⟨rfl, rfl⟩ (by decide +kernel) ⟨Nat.le_of_ble_eq_true rfl, Nat.le_of_ble_eq_true rfl⟩ hP hD hS rfl hl.1 rfl (Nat.le_of_ble_eq_true rfl) ⟨Nat.zero_le _, Nat.zero_le _⟩ dX4_release_8 (fun H locs hP hD hS => ?_)
  refine pb_if_ne (tgt := 29) hx hb dX4_release_11 (by decide) (fun c1 => ?_) (fun c1 => ?_)
  · exfalso; cases c1
  · refine lv_aload_n hx hb dX4_release_14 rfl (lv_at hl 0 rfl) ?_
    refine lv_iload_n hx hb dX4_release_15 rfl (lv_at hl 3 rfl) ?_
    refine lv_iconst (v := nI 1) hx hb dX4_release_16 (by decide) ?_
    refine lv_bipush (v := nI 20) hx hb dX4_release_17 (by decide) ?_
    refine pp_callS (n := 3) (rest := [.ref (h 0)]) hx hb hml hown hts (m_in_ok l x (nI 1) (nI 20) (by first | assumption | omega | rfl)) (lw_S q2363 q2364 q122 q2365) ⟨rfl, rfl⟩ (by decide +kernel) ⟨Nat.le_of_ble_eq_true rfl, Nat.le_of_ble_eq_true rfl⟩ rfl hl.1 rfl (Nat.le_of_ble_eq_true rfl) dX4_release_19 ⟨Nat.zero_le _, Nat.zero_le _⟩ ?_
    refine lv_iconst (v := nI 2) hx hb dX4_release_22 (by decide) ?_
    refine pm_callI (n := 2) [] hx hb hml hown hts hA hK (m_fails_ok l D h cI (va_up f 0 (nI 0)) g (nI 2) (by first | assumption | omega | rfl)) (lw_V q2366 q2368 qs32 q122 q2369) ⟨rfl, rfl⟩ (by decide +kernel) ⟨Nat.le_of_ble_eq_true rfl, Nat.le_of_ble_eq_true rfl⟩ hP hD hS rfl hl.1 rfl (Nat.le_of_ble_eq_true rfl) ⟨Nat.zero_le _, Nat.zero_le _⟩ dX4_release_23 (fun H locs hP hD hS => ?_)
    refine pb_if_eq (tgt := 33) hx hb dX4_release_26 (by decide) (fun c2 => ?_) (fun c2 => ?_)
    · refine lv_aload_n hx hb dX4_release_33 rfl (lv_at hl 0 rfl) ?_
      refine lv_iconst (v := nI 1) hx hb dX4_release_34 (by decide) ?_
      refine lv_iload_n hx hb dX4_release_35 rfl (lv_at hl 1 rfl) ?_
      refine lv_iload_n hx hb dX4_release_36 rfl (lv_at hl 2 rfl) ?_
      refine lv_iload_n hx hb dX4_release_37 rfl (lv_at hl 3 rfl) ?_
      refine lv_iconst (v := nI 3) hx hb dX4_release_38 (by decide) ?_
      refine pm_callI (n := 5) [] hx hb hml hown hts hA hK (m_operates1_no l D h cI (va_up f 0 (nI 0)) g K N 3 o k x (by first | assumption | omega | rfl) (by first | assumption | omega | rfl) (by first | assumption | omega | rfl) (by first | assumption | omega | rfl) (by first | assumption | omega | rfl) (by first | assumption | omega | rfl) (by first | assumption | omega | rfl) (by first | assumption | omega | rfl) (by first | assumption | omega | rfl) (by first | assumption | omega | rfl)) (lw_V q2807 q2809 qs81 q122 q2810) ⟨rfl, rfl⟩ (by decide +kernel) ⟨Nat.le_of_ble_eq_true rfl, Nat.le_of_ble_eq_true rfl⟩ hP hD hS rfl hl.1 rfl (Nat.le_of_ble_eq_true rfl) ⟨Nat.zero_le _, Nat.zero_le _⟩ dX4_release_39 (fun H locs hP hD hS => ?_)
      have hP : va_P D pc_Cl (pm_W h cI (va_up f 0 (nI 3)) g) H := hP
      have hD : va_D A (pm_W h cI (va_up f 0 (nI 3)) g) := hD
      exact pm_retI hx hb hlk hr hq hP hD hS dX4_release_42 rfl rfl
    · exfalso; cases c2

set_option maxHeartbeats 4000000 in
theorem m_release_nr (l : Launch) (D : va_G) (h : Nat → Nat) (cI : ClassId) (f : Nat → Int32) (g : Nat → Nat → Int32) (B : Nat) (K : Nat) (N : Nat) (wl : List Nat) (o : Nat) (k : Nat) (x : Int32) (hI : pc_inv B (g 1) K N wl) (ho : o < N) (hk : k < K) (hr9 : pc_inr x (nI 1) (nI 20) = false) : pm_C l yX4_release (ws_ yX4_release cX4_release 4 (some .int)) ({ frames := 3, cells := 0, slots := 0, locals := 65 } : Room) D h cI [.ref (h 0), .int (nI o), .int (nI k), .int (x)] f g (some (.int (nI 0))) (va_up f 0 (nI 2)) g := by
  refine pm_enter (cc := cX4_release) (maxL := 4) (ret := (some .int)) (by decide) (Nat.le_of_ble_eq_true rfl) ?_
  intro p e s m below meth c A Qc ls hx hb hml hown hts hlk hA hK hP hD hS hr hq hl
  have hl : lv_has ls 4 [(0, .ref (h 0)), (1, .int (nI o)), (2, .int (nI k)), (3, .int (x))] := hl
  have hN := hI.N0
  have hK0 := hI.K0
  have hN8 := hI.N8
  have hK4 := hI.K4
  have hN1 := hI.N1
  have hK1 := hI.K1
  have hwt := hI.waiting
  have hln := hI.len
  refine lv_aload_n hx hb dX4_release_0 rfl (lv_at hl 0 rfl) ?_
  refine lv_iconst (v := nI 0) hx hb dX4_release_1 (by decide) ?_
  refine pm_put0 (f := f) (f2 := (va_up f 0 (nI 0))) hx hb hts hown hK hP hD hS (hts _ q2482) rfl dX4_release_2 (fun H locs hP hD hS => ?_)
  refine lv_aload_n hx hb dX4_release_5 rfl (lv_at hl 0 rfl) ?_
  refine lv_iload_n hx hb dX4_release_6 rfl (lv_at hl 1 rfl) ?_
  refine lv_iload_n hx hb dX4_release_7 rfl (lv_at hl 2 rfl) ?_
  refine pm_callI (n := 2) [] hx hb hml hown hts hA hK (m_noPair_ok l D h cI (va_up f 0 (nI 0)) g K N o k (by first | assumption | omega | rfl) (by first | assumption | omega | rfl) (by first | assumption | omega | rfl) (by first | assumption | omega | rfl) (by first | assumption | omega | rfl) (by first | assumption | omega | rfl) (by first | assumption | omega | rfl)) (lw_V q2606 q2608 qs60 q122 q2609) ⟨rfl, rfl⟩ (by decide +kernel) ⟨Nat.le_of_ble_eq_true rfl, Nat.le_of_ble_eq_true rfl⟩ hP hD hS rfl hl.1 rfl (Nat.le_of_ble_eq_true rfl) ⟨Nat.zero_le _, Nat.zero_le _⟩ dX4_release_8 (fun H locs hP hD hS => ?_)
  refine pb_if_ne (tgt := 29) hx hb dX4_release_11 (by decide) (fun c1 => ?_) (fun c1 => ?_)
  · exfalso; cases c1
  · refine lv_aload_n hx hb dX4_release_14 rfl (lv_at hl 0 rfl) ?_
    refine lv_iload_n hx hb dX4_release_15 rfl (lv_at hl 3 rfl) ?_
    refine lv_iconst (v := nI 1) hx hb dX4_release_16 (by decide) ?_
    refine lv_bipush (v := nI 20) hx hb dX4_release_17 (by decide) ?_
    refine pp_callS (n := 3) (rest := [.ref (h 0)]) hx hb hml hown hts (m_in_no l x (nI 1) (nI 20) (by first | assumption | omega | rfl)) (lw_S q2363 q2364 q122 q2365) ⟨rfl, rfl⟩ (by decide +kernel) ⟨Nat.le_of_ble_eq_true rfl, Nat.le_of_ble_eq_true rfl⟩ rfl hl.1 rfl (Nat.le_of_ble_eq_true rfl) dX4_release_19 ⟨Nat.zero_le _, Nat.zero_le _⟩ ?_
    refine lv_iconst (v := nI 2) hx hb dX4_release_22 (by decide) ?_
    refine pm_callI (n := 2) [] hx hb hml hown hts hA hK (m_fails_no l D h cI (va_up f 0 (nI 0)) g 2 (by first | assumption | omega | rfl) (by first | assumption | omega | rfl) (by first | assumption | omega | rfl)) (lw_V q2366 q2368 qs32 q122 q2369) ⟨rfl, rfl⟩ (by decide +kernel) ⟨Nat.le_of_ble_eq_true rfl, Nat.le_of_ble_eq_true rfl⟩ hP hD hS rfl hl.1 rfl (Nat.le_of_ble_eq_true rfl) ⟨Nat.zero_le _, Nat.zero_le _⟩ dX4_release_23 (fun H locs hP hD hS => ?_)
    have hP : va_P D pc_Cl (pm_W h cI (va_up f 0 (nI 2)) g) H := hP
    have hD : va_D A (pm_W h cI (va_up f 0 (nI 2)) g) := hD
    refine pb_if_eq (tgt := 33) hx hb dX4_release_26 (by decide) (fun c2 => ?_) (fun c2 => ?_)
    · exfalso; cases c2
    · refine lv_iconst (v := nI 0) hx hb dX4_release_29 (by decide) ?_
      refine lv_goto (tgt := 42) hx hb dX4_release_30 (by decide) ?_
      exact pm_retI hx hb hlk hr hq hP hD hS dX4_release_42 rfl rfl

set_option maxHeartbeats 4000000 in
theorem m_release_no (l : Launch) (D : va_G) (h : Nat → Nat) (cI : ClassId) (f : Nat → Int32) (g : Nat → Nat → Int32) (B : Nat) (K : Nat) (N : Nat) (wl : List Nat) (x8 : Int32) (y8 : Int32) (z8 : Int32) (hI : pc_inv B (g 1) K N wl) (hx8 : pc_inr x8 (nI 0) (nI (N - 1)) = false) : pm_C l yX4_release (ws_ yX4_release cX4_release 4 (some .int)) ({ frames := 3, cells := 0, slots := 0, locals := 65 } : Room) D h cI [.ref (h 0), .int (x8), .int (y8), .int (z8)] f g (some (.int (nI 0))) (va_up f 0 (nI 1)) g := by
  refine pm_enter (cc := cX4_release) (maxL := 4) (ret := (some .int)) (by decide) (Nat.le_of_ble_eq_true rfl) ?_
  intro p e s m below meth c A Qc ls hx hb hml hown hts hlk hA hK hP hD hS hr hq hl
  have hl : lv_has ls 4 [(0, .ref (h 0)), (1, .int (x8)), (2, .int (y8)), (3, .int (z8))] := hl
  have hN := hI.N0
  have hK0 := hI.K0
  have hN8 := hI.N8
  have hK4 := hI.K4
  have hN1 := hI.N1
  have hK1 := hI.K1
  have hwt := hI.waiting
  have hln := hI.len
  refine lv_aload_n hx hb dX4_release_0 rfl (lv_at hl 0 rfl) ?_
  refine lv_iconst (v := nI 0) hx hb dX4_release_1 (by decide) ?_
  refine pm_put0 (f := f) (f2 := (va_up f 0 (nI 0))) hx hb hts hown hK hP hD hS (hts _ q2482) rfl dX4_release_2 (fun H locs hP hD hS => ?_)
  refine lv_aload_n hx hb dX4_release_5 rfl (lv_at hl 0 rfl) ?_
  refine lv_iload_n hx hb dX4_release_6 rfl (lv_at hl 1 rfl) ?_
  refine lv_iload_n hx hb dX4_release_7 rfl (lv_at hl 2 rfl) ?_
  refine pm_callI (n := 2) [] hx hb hml hown hts hA hK (m_noPair_no l D h cI (va_up f 0 (nI 0)) g N x8 y8 (by first | assumption | omega | rfl) (by first | assumption | omega | rfl) (by first | assumption | omega | rfl) (by first | assumption | omega | rfl) (by first | assumption | omega | rfl)) (lw_V q2606 q2608 qs60 q122 q2609) ⟨rfl, rfl⟩ (by decide +kernel) ⟨Nat.le_of_ble_eq_true rfl, Nat.le_of_ble_eq_true rfl⟩ hP hD hS rfl hl.1 rfl (Nat.le_of_ble_eq_true rfl) ⟨Nat.zero_le _, Nat.zero_le _⟩ dX4_release_8 (fun H locs hP hD hS => ?_)
  have hP : va_P D pc_Cl (pm_W h cI (va_up f 0 (nI 1)) g) H := hP
  have hD : va_D A (pm_W h cI (va_up f 0 (nI 1)) g) := hD
  refine pb_if_ne (tgt := 29) hx hb dX4_release_11 (by decide) (fun c1 => ?_) (fun c1 => ?_)
  · refine lv_iconst (v := nI 0) hx hb dX4_release_29 (by decide) ?_
    refine lv_goto (tgt := 42) hx hb dX4_release_30 (by decide) ?_
    exact pm_retI hx hb hlk hr hq hP hD hS dX4_release_42 rfl rfl
  · exfalso; cases c1

set_option maxHeartbeats 4000000 in
theorem m_release_nk (l : Launch) (D : va_G) (h : Nat → Nat) (cI : ClassId) (f : Nat → Int32) (g : Nat → Nat → Int32) (B : Nat) (K : Nat) (N : Nat) (wl : List Nat) (o : Nat) (y8 : Int32) (z8 : Int32) (hI : pc_inv B (g 1) K N wl) (ho : o < N) (hx8 : pc_inr y8 (nI 0) (nI (K - 1)) = false) : pm_C l yX4_release (ws_ yX4_release cX4_release 4 (some .int)) ({ frames := 3, cells := 0, slots := 0, locals := 65 } : Room) D h cI [.ref (h 0), .int (nI o), .int (y8), .int (z8)] f g (some (.int (nI 0))) (va_up f 0 (nI 1)) g := by
  refine pm_enter (cc := cX4_release) (maxL := 4) (ret := (some .int)) (by decide) (Nat.le_of_ble_eq_true rfl) ?_
  intro p e s m below meth c A Qc ls hx hb hml hown hts hlk hA hK hP hD hS hr hq hl
  have hl : lv_has ls 4 [(0, .ref (h 0)), (1, .int (nI o)), (2, .int (y8)), (3, .int (z8))] := hl
  have hN := hI.N0
  have hK0 := hI.K0
  have hN8 := hI.N8
  have hK4 := hI.K4
  have hN1 := hI.N1
  have hK1 := hI.K1
  have hwt := hI.waiting
  have hln := hI.len
  refine lv_aload_n hx hb dX4_release_0 rfl (lv_at hl 0 rfl) ?_
  refine lv_iconst (v := nI 0) hx hb dX4_release_1 (by decide) ?_
  refine pm_put0 (f := f) (f2 := (va_up f 0 (nI 0))) hx hb hts hown hK hP hD hS (hts _ q2482) rfl dX4_release_2 (fun H locs hP hD hS => ?_)
  refine lv_aload_n hx hb dX4_release_5 rfl (lv_at hl 0 rfl) ?_
  refine lv_iload_n hx hb dX4_release_6 rfl (lv_at hl 1 rfl) ?_
  refine lv_iload_n hx hb dX4_release_7 rfl (lv_at hl 2 rfl) ?_
  refine pm_callI (n := 2) [] hx hb hml hown hts hA hK (m_noPair_nk l D h cI (va_up f 0 (nI 0)) g K N o y8 (by first | assumption | omega | rfl) (by first | assumption | omega | rfl) (by first | assumption | omega | rfl) (by first | assumption | omega | rfl) (by first | assumption | omega | rfl) (by first | assumption | omega | rfl) (by first | assumption | omega | rfl) (by first | assumption | omega | rfl)) (lw_V q2606 q2608 qs60 q122 q2609) ⟨rfl, rfl⟩ (by decide +kernel) ⟨Nat.le_of_ble_eq_true rfl, Nat.le_of_ble_eq_true rfl⟩ hP hD hS rfl hl.1 rfl (Nat.le_of_ble_eq_true rfl) ⟨Nat.zero_le _, Nat.zero_le _⟩ dX4_release_8 (fun H locs hP hD hS => ?_)
  have hP : va_P D pc_Cl (pm_W h cI (va_up f 0 (nI 1)) g) H := hP
  have hD : va_D A (pm_W h cI (va_up f 0 (nI 1)) g) := hD
  refine pb_if_ne (tgt := 29) hx hb dX4_release_11 (by decide) (fun c1 => ?_) (fun c1 => ?_)
  · refine lv_iconst (v := nI 0) hx hb dX4_release_29 (by decide) ?_
    refine lv_goto (tgt := 42) hx hb dX4_release_30 (by decide) ?_
    exact pm_retI hx hb hlk hr hq hP hD hS dX4_release_42 rfl rfl
  · exfalso; cases c1

set_option maxHeartbeats 4000000 in
theorem m_finish_ok (l : Launch) (D : va_G) (h : Nat → Nat) (cI : ClassId) (f : Nat → Int32) (g : Nat → Nat → Int32) (B : Nat) (K : Nat) (N : Nat) (wl : List Nat) (u : Nat) (o : Nat) (hI : pc_inv B (g 1) K N wl) (ho : o < N) (hu : f 6 = nI u) (hu8 : u ≤ 8) : pm_C l yX4_finish (ws_ yX4_finish cX4_finish 2 (some .int)) ({ frames := 15, cells := 0, slots := 0, locals := 343 } : Room) D h cI [.ref (h 0), .int (nI o)] f g (some (.int (nI (pc_serve (pc_fin (g 1) o K) K N (wl.erase o)).1))) (va_up (va_up f 0 (nI 0)) 6 (nI (pc_un u))) (va_up (va_up g 5 (pc_keep g u)) 1 ((pc_serve (pc_fin (g 1) o K) K N (wl.erase o)).2.1)) := by
  refine pm_enter (cc := cX4_finish) (maxL := 2) (ret := (some .int)) (by decide) (Nat.le_of_ble_eq_true rfl) ?_
  intro p e s m below meth c A Qc ls hx hb hml hown hts hlk hA hK hP hD hS hr hq hl
  have hl : lv_has ls 2 [(0, .ref (h 0)), (1, .int (nI o))] := hl
  have hN := hI.N0
  have hK0 := hI.K0
  have hN8 := hI.N8
  have hK4 := hI.K4
  have hN1 := hI.N1
  have hK1 := hI.K1
  have hwt := hI.waiting
  have hln := hI.len
  refine lv_aload_n hx hb dX4_finish_0 rfl (lv_at hl 0 rfl) ?_
  refine lv_iconst (v := nI 0) hx hb dX4_finish_1 (by decide) ?_
  refine pm_put0 (f := f) (f2 := (va_up f 0 (nI 0))) hx hb hts hown hK hP hD hS (hts _ q2482) rfl dX4_finish_2 (fun H locs hP hD hS => ?_)
  refine lv_aload_n hx hb dX4_finish_5 rfl (lv_at hl 0 rfl) ?_
  refine lv_iload_n hx hb dX4_finish_6 rfl (lv_at hl 1 rfl) ?_
  refine pm_callI (n := 1) [] hx hb hml hown hts hA hK (m_noOffice_ok l D h cI (va_up f 0 (nI 0)) g N o (by first | assumption | omega | rfl) (by first | assumption | omega | rfl) (by first | assumption | omega | rfl) (by first | assumption | omega | rfl)) (lw_V q2610 q2612 qs61 q122 q2613) ⟨rfl, rfl⟩ (by decide +kernel) ⟨Nat.le_of_ble_eq_true rfl, Nat.le_of_ble_eq_true rfl⟩ hP hD hS rfl hl.1 rfl (Nat.le_of_ble_eq_true rfl) ⟨Nat.zero_le _, Nat.zero_le _⟩ dX4_finish_7 (fun H locs hP hD hS => ?_)
  refine pb_if_eq (tgt := 17) hx hb dX4_finish_10 (by decide) (fun c1 => ?_) (fun c1 => ?_)
  · refine lv_aload_n hx hb dX4_finish_17 rfl (lv_at hl 0 rfl) ?_
    refine lv_iconst (v := nI 2) hx hb dX4_finish_18 (by decide) ?_
    refine lv_iload_n hx hb dX4_finish_19 rfl (lv_at hl 1 rfl) ?_
    refine lv_iconst (v := nI 0) hx hb dX4_finish_20 (by decide) ?_
    refine lv_iconst (v := nI 0) hx hb dX4_finish_21 (by decide) ?_
    refine lv_iconst (v := nI 2) hx hb dX4_finish_22 (by decide) ?_
    refine pm_callI (n := 5) [] hx hb hml hown hts hA hK (m_operates2_ok l D h cI (va_up f 0 (nI 0)) g B K N wl 2 u o (nI 0) (nI 0) (by first | assumption | omega | rfl) (by first | assumption | omega | rfl) (by first | assumption | omega | rfl) (by first | assumption | omega | rfl) (by first | assumption | omega | rfl)) (lw_V q2807 q2809 qs81 q122 q2810) ⟨rfl, rfl⟩ (by decide +kernel) ⟨Nat.le_of_ble_eq_true rfl, Nat.le_of_ble_eq_true rfl⟩ hP hD hS rfl hl.1 rfl (Nat.le_of_ble_eq_true rfl) ⟨Nat.zero_le _, Nat.zero_le _⟩ dX4_finish_23 (fun H locs hP hD hS => ?_)
    have hP : va_P D pc_Cl (pm_W h cI (va_up (va_up f 0 (nI 0)) 6 (nI (pc_un u))) (va_up (va_up g 5 (pc_keep g u)) 1 ((pc_serve (pc_fin (g 1) o K) K N (wl.erase o)).2.1))) H := hP
    have hD : va_D A (pm_W h cI (va_up (va_up f 0 (nI 0)) 6 (nI (pc_un u))) (va_up (va_up g 5 (pc_keep g u)) 1 ((pc_serve (pc_fin (g 1) o K) K N (wl.erase o)).2.1))) := hD
    exact pm_retI hx hb hlk hr hq hP hD hS dX4_finish_26 rfl rfl
  · exfalso; cases c1

set_option maxHeartbeats 4000000 in
theorem m_finish_no (l : Launch) (D : va_G) (h : Nat → Nat) (cI : ClassId) (f : Nat → Int32) (g : Nat → Nat → Int32) (B : Nat) (K : Nat) (N : Nat) (wl : List Nat) (x8 : Int32) (hI : pc_inv B (g 1) K N wl) (hx8 : pc_inr x8 (nI 0) (nI (N - 1)) = false) : pm_C l yX4_finish (ws_ yX4_finish cX4_finish 2 (some .int)) ({ frames := 2, cells := 0, slots := 0, locals := 43 } : Room) D h cI [.ref (h 0), .int (x8)] f g (some (.int (nI 0))) (va_up f 0 (nI 1)) g := by
  refine pm_enter (cc := cX4_finish) (maxL := 2) (ret := (some .int)) (by decide) (Nat.le_of_ble_eq_true rfl) ?_
  intro p e s m below meth c A Qc ls hx hb hml hown hts hlk hA hK hP hD hS hr hq hl
  have hl : lv_has ls 2 [(0, .ref (h 0)), (1, .int (x8))] := hl
  have hN := hI.N0
  have hK0 := hI.K0
  have hN8 := hI.N8
  have hK4 := hI.K4
  have hN1 := hI.N1
  have hK1 := hI.K1
  have hwt := hI.waiting
  have hln := hI.len
  refine lv_aload_n hx hb dX4_finish_0 rfl (lv_at hl 0 rfl) ?_
  refine lv_iconst (v := nI 0) hx hb dX4_finish_1 (by decide) ?_
  refine pm_put0 (f := f) (f2 := (va_up f 0 (nI 0))) hx hb hts hown hK hP hD hS (hts _ q2482) rfl dX4_finish_2 (fun H locs hP hD hS => ?_)
  refine lv_aload_n hx hb dX4_finish_5 rfl (lv_at hl 0 rfl) ?_
  refine lv_iload_n hx hb dX4_finish_6 rfl (lv_at hl 1 rfl) ?_
  refine pm_callI (n := 1) [] hx hb hml hown hts hA hK (m_noOffice_no l D h cI (va_up f 0 (nI 0)) g N x8 (by first | assumption | omega | rfl) (by first | assumption | omega | rfl) (by first | assumption | omega | rfl) (by first | assumption | omega | rfl) (by first | assumption | omega | rfl)) (lw_V q2610 q2612 qs61 q122 q2613) ⟨rfl, rfl⟩ (by decide +kernel) ⟨Nat.le_of_ble_eq_true rfl, Nat.le_of_ble_eq_true rfl⟩ hP hD hS rfl hl.1 rfl (Nat.le_of_ble_eq_true rfl) ⟨Nat.zero_le _, Nat.zero_le _⟩ dX4_finish_7 (fun H locs hP hD hS => ?_)
  have hP : va_P D pc_Cl (pm_W h cI (va_up f 0 (nI 1)) g) H := hP
  have hD : va_D A (pm_W h cI (va_up f 0 (nI 1)) g) := hD
  refine pb_if_eq (tgt := 17) hx hb dX4_finish_10 (by decide) (fun c1 => ?_) (fun c1 => ?_)
  · exfalso; cases c1
  · refine lv_iconst (v := nI 0) hx hb dX4_finish_13 (by decide) ?_
    refine lv_goto (tgt := 26) hx hb dX4_finish_14 (by decide) ?_
    exact pm_retI hx hb hlk hr hq hP hD hS dX4_finish_26 rfl rfl

set_option maxHeartbeats 4000000 in
theorem m_withdraw_ok (l : Launch) (D : va_G) (h : Nat → Nat) (cI : ClassId) (f : Nat → Int32) (g : Nat → Nat → Int32) (B : Nat) (K : Nat) (N : Nat) (wl : List Nat) (u : Nat) (o : Nat) (hI : pc_inv B (g 1) K N wl) (ho : o < N) (hu : f 6 = nI u) (hu8 : u ≤ 8) (hcan : pc_wait (g 1) o = true) : pm_C l yX4_withdraw (ws_ yX4_withdraw cX4_withdraw 2 (some .int)) ({ frames := 15, cells := 0, slots := 0, locals := 343 } : Room) D h cI [.ref (h 0), .int (nI o)] f g (some (.int (nI (pc_waiting (pc_serve (pc_forgets (g 1) o) K N (wl.erase o)).2.1 N)))) (va_up (va_up f 0 (nI 0)) 6 (nI (pc_un u))) (va_up (va_up g 5 (pc_keep g u)) 1 ((pc_serve (pc_forgets (g 1) o) K N (wl.erase o)).2.1)) := by
  refine pm_enter (cc := cX4_withdraw) (maxL := 2) (ret := (some .int)) (by decide) (Nat.le_of_ble_eq_true rfl) ?_
  intro p e s m below meth c A Qc ls hx hb hml hown hts hlk hA hK hP hD hS hr hq hl
  have hl : lv_has ls 2 [(0, .ref (h 0)), (1, .int (nI o))] := hl
  have hN := hI.N0
  have hK0 := hI.K0
  have hN8 := hI.N8
  have hK4 := hI.K4
  have hN1 := hI.N1
  have hK1 := hI.K1
  have hwt := hI.waiting
  have hln := hI.len
  refine lv_aload_n hx hb dX4_withdraw_0 rfl (lv_at hl 0 rfl) ?_
  refine lv_iconst (v := nI 0) hx hb dX4_withdraw_1 (by decide) ?_
  refine pm_put0 (f := f) (f2 := (va_up f 0 (nI 0))) hx hb hts hown hK hP hD hS (hts _ q2482) rfl dX4_withdraw_2 (fun H locs hP hD hS => ?_)
  refine lv_aload_n hx hb dX4_withdraw_5 rfl (lv_at hl 0 rfl) ?_
  refine lv_iload_n hx hb dX4_withdraw_6 rfl (lv_at hl 1 rfl) ?_
  refine pm_callI (n := 1) [] hx hb hml hown hts hA hK (m_noOffice_ok l D h cI (va_up f 0 (nI 0)) g N o (by first | assumption | omega | rfl) (by first | assumption | omega | rfl) (by first | assumption | omega | rfl) (by first | assumption | omega | rfl)) (lw_V q2610 q2612 qs61 q122 q2613) ⟨rfl, rfl⟩ (by decide +kernel) ⟨Nat.le_of_ble_eq_true rfl, Nat.le_of_ble_eq_true rfl⟩ hP hD hS rfl hl.1 rfl (Nat.le_of_ble_eq_true rfl) ⟨Nat.zero_le _, Nat.zero_le _⟩ dX4_withdraw_7 (fun H locs hP hD hS => ?_)
  refine pb_if_eq (tgt := 17) hx hb dX4_withdraw_10 (by decide) (fun c1 => ?_) (fun c1 => ?_)
  · refine lv_aload_n hx hb dX4_withdraw_17 rfl (lv_at hl 0 rfl) ?_
    refine lv_iconst (v := nI 3) hx hb dX4_withdraw_18 (by decide) ?_
    refine lv_iload_n hx hb dX4_withdraw_19 rfl (lv_at hl 1 rfl) ?_
    refine lv_iconst (v := nI 0) hx hb dX4_withdraw_20 (by decide) ?_
    refine lv_iconst (v := nI 0) hx hb dX4_withdraw_21 (by decide) ?_
    refine lv_iconst (v := nI 2) hx hb dX4_withdraw_22 (by decide) ?_
    refine pm_callI (n := 5) [] hx hb hml hown hts hA hK (m_operates3_ok l D h cI (va_up f 0 (nI 0)) g B K N wl 2 u o (nI 0) (nI 0) (by first | assumption | omega | rfl) (by first | assumption | omega | rfl) (by first | assumption | omega | rfl) (by first | assumption | omega | rfl) (by first | assumption | omega | rfl) (by first | assumption | omega | rfl)) (lw_V q2807 q2809 qs81 q122 q2810) ⟨rfl, rfl⟩ (by decide +kernel) ⟨Nat.le_of_ble_eq_true rfl, Nat.le_of_ble_eq_true rfl⟩ hP hD hS rfl hl.1 rfl (Nat.le_of_ble_eq_true rfl) ⟨Nat.zero_le _, Nat.zero_le _⟩ dX4_withdraw_23 (fun H locs hP hD hS => ?_)
    have hP : va_P D pc_Cl (pm_W h cI (va_up (va_up f 0 (nI 0)) 6 (nI (pc_un u))) (va_up (va_up g 5 (pc_keep g u)) 1 ((pc_serve (pc_forgets (g 1) o) K N (wl.erase o)).2.1))) H := hP
    have hD : va_D A (pm_W h cI (va_up (va_up f 0 (nI 0)) 6 (nI (pc_un u))) (va_up (va_up g 5 (pc_keep g u)) 1 ((pc_serve (pc_forgets (g 1) o) K N (wl.erase o)).2.1))) := hD
    exact pm_retI hx hb hlk hr hq hP hD hS dX4_withdraw_26 rfl rfl
  · exfalso; cases c1

set_option maxHeartbeats 4000000 in
theorem m_withdraw_st (l : Launch) (D : va_G) (h : Nat → Nat) (cI : ClassId) (f : Nat → Int32) (g : Nat → Nat → Int32) (B : Nat) (K : Nat) (N : Nat) (wl : List Nat) (o : Nat) (hI : pc_inv B (g 1) K N wl) (ho : o < N) (hcan : pc_wait (g 1) o = false) : pm_C l yX4_withdraw (ws_ yX4_withdraw cX4_withdraw 2 (some .int)) ({ frames := 4, cells := 0, slots := 0, locals := 92 } : Room) D h cI [.ref (h 0), .int (nI o)] f g (some (.int (nI 0))) (va_up f 0 (nI 2)) g := by
  refine pm_enter (cc := cX4_withdraw) (maxL := 2) (ret := (some .int)) (by decide) (Nat.le_of_ble_eq_true rfl) ?_
  intro p e s m below meth c A Qc ls hx hb hml hown hts hlk hA hK hP hD hS hr hq hl
  have hl : lv_has ls 2 [(0, .ref (h 0)), (1, .int (nI o))] := hl
  have hN := hI.N0
  have hK0 := hI.K0
  have hN8 := hI.N8
  have hK4 := hI.K4
  have hN1 := hI.N1
  have hK1 := hI.K1
  have hwt := hI.waiting
  have hln := hI.len
  refine lv_aload_n hx hb dX4_withdraw_0 rfl (lv_at hl 0 rfl) ?_
  refine lv_iconst (v := nI 0) hx hb dX4_withdraw_1 (by decide) ?_
  refine pm_put0 (f := f) (f2 := (va_up f 0 (nI 0))) hx hb hts hown hK hP hD hS (hts _ q2482) rfl dX4_withdraw_2 (fun H locs hP hD hS => ?_)
  refine lv_aload_n hx hb dX4_withdraw_5 rfl (lv_at hl 0 rfl) ?_
  refine lv_iload_n hx hb dX4_withdraw_6 rfl (lv_at hl 1 rfl) ?_
  refine pm_callI (n := 1) [] hx hb hml hown hts hA hK (m_noOffice_ok l D h cI (va_up f 0 (nI 0)) g N o (by first | assumption | omega | rfl) (by first | assumption | omega | rfl) (by first | assumption | omega | rfl) (by first | assumption | omega | rfl)) (lw_V q2610 q2612 qs61 q122 q2613) ⟨rfl, rfl⟩ (by decide +kernel) ⟨Nat.le_of_ble_eq_true rfl, Nat.le_of_ble_eq_true rfl⟩ hP hD hS rfl hl.1 rfl (Nat.le_of_ble_eq_true rfl) ⟨Nat.zero_le _, Nat.zero_le _⟩ dX4_withdraw_7 (fun H locs hP hD hS => ?_)
  refine pb_if_eq (tgt := 17) hx hb dX4_withdraw_10 (by decide) (fun c1 => ?_) (fun c1 => ?_)
  · refine lv_aload_n hx hb dX4_withdraw_17 rfl (lv_at hl 0 rfl) ?_
    refine lv_iconst (v := nI 3) hx hb dX4_withdraw_18 (by decide) ?_
    refine lv_iload_n hx hb dX4_withdraw_19 rfl (lv_at hl 1 rfl) ?_
    refine lv_iconst (v := nI 0) hx hb dX4_withdraw_20 (by decide) ?_
    refine lv_iconst (v := nI 0) hx hb dX4_withdraw_21 (by decide) ?_
    refine lv_iconst (v := nI 2) hx hb dX4_withdraw_22 (by decide) ?_
    refine pm_callI (n := 5) [] hx hb hml hown hts hA hK (m_operates3_no l D h cI (va_up f 0 (nI 0)) g K N 2 o (nI 0) (nI 0) (by first | assumption | omega | rfl) (by first | assumption | omega | rfl) (by first | assumption | omega | rfl) (by first | assumption | omega | rfl) (by first | assumption | omega | rfl) (by first | assumption | omega | rfl) (by first | assumption | omega | rfl) (by first | assumption | omega | rfl) (by first | assumption | omega | rfl)) (lw_V q2807 q2809 qs81 q122 q2810) ⟨rfl, rfl⟩ (by decide +kernel) ⟨Nat.le_of_ble_eq_true rfl, Nat.le_of_ble_eq_true rfl⟩ hP hD hS rfl hl.1 rfl (Nat.le_of_ble_eq_true rfl) ⟨Nat.zero_le _, Nat.zero_le _⟩ dX4_withdraw_23 (fun H locs hP hD hS => ?_)
    have hP : va_P D pc_Cl (pm_W h cI (va_up f 0 (nI 2)) g) H := hP
    have hD : va_D A (pm_W h cI (va_up f 0 (nI 2)) g) := hD
    exact pm_retI hx hb hlk hr hq hP hD hS dX4_withdraw_26 rfl rfl
  · exfalso; cases c1

set_option maxHeartbeats 4000000 in
theorem m_withdraw_no (l : Launch) (D : va_G) (h : Nat → Nat) (cI : ClassId) (f : Nat → Int32) (g : Nat → Nat → Int32) (B : Nat) (K : Nat) (N : Nat) (wl : List Nat) (x8 : Int32) (hI : pc_inv B (g 1) K N wl) (hx8 : pc_inr x8 (nI 0) (nI (N - 1)) = false) : pm_C l yX4_withdraw (ws_ yX4_withdraw cX4_withdraw 2 (some .int)) ({ frames := 2, cells := 0, slots := 0, locals := 43 } : Room) D h cI [.ref (h 0), .int (x8)] f g (some (.int (nI 0))) (va_up f 0 (nI 1)) g := by
  refine pm_enter (cc := cX4_withdraw) (maxL := 2) (ret := (some .int)) (by decide) (Nat.le_of_ble_eq_true rfl) ?_
  intro p e s m below meth c A Qc ls hx hb hml hown hts hlk hA hK hP hD hS hr hq hl
  have hl : lv_has ls 2 [(0, .ref (h 0)), (1, .int (x8))] := hl
  have hN := hI.N0
  have hK0 := hI.K0
  have hN8 := hI.N8
  have hK4 := hI.K4
  have hN1 := hI.N1
  have hK1 := hI.K1
  have hwt := hI.waiting
  have hln := hI.len
  refine lv_aload_n hx hb dX4_withdraw_0 rfl (lv_at hl 0 rfl) ?_
  refine lv_iconst (v := nI 0) hx hb dX4_withdraw_1 (by decide) ?_
  refine pm_put0 (f := f) (f2 := (va_up f 0 (nI 0))) hx hb hts hown hK hP hD hS (hts _ q2482) rfl dX4_withdraw_2 (fun H locs hP hD hS => ?_)
  refine lv_aload_n hx hb dX4_withdraw_5 rfl (lv_at hl 0 rfl) ?_
  refine lv_iload_n hx hb dX4_withdraw_6 rfl (lv_at hl 1 rfl) ?_
  refine pm_callI (n := 1) [] hx hb hml hown hts hA hK (m_noOffice_no l D h cI (va_up f 0 (nI 0)) g N x8 (by first | assumption | omega | rfl) (by first | assumption | omega | rfl) (by first | assumption | omega | rfl) (by first | assumption | omega | rfl) (by first | assumption | omega | rfl)) (lw_V q2610 q2612 qs61 q122 q2613) ⟨rfl, rfl⟩ (by decide +kernel) ⟨Nat.le_of_ble_eq_true rfl, Nat.le_of_ble_eq_true rfl⟩ hP hD hS rfl hl.1 rfl (Nat.le_of_ble_eq_true rfl) ⟨Nat.zero_le _, Nat.zero_le _⟩ dX4_withdraw_7 (fun H locs hP hD hS => ?_)
  have hP : va_P D pc_Cl (pm_W h cI (va_up f 0 (nI 1)) g) H := hP
  have hD : va_D A (pm_W h cI (va_up f 0 (nI 1)) g) := hD
  refine pb_if_eq (tgt := 17) hx hb dX4_withdraw_10 (by decide) (fun c1 => ?_) (fun c1 => ?_)
  · exfalso; cases c1
  · refine lv_iconst (v := nI 0) hx hb dX4_withdraw_13 (by decide) ?_
    refine lv_goto (tgt := 26) hx hb dX4_withdraw_14 (by decide) ?_
    exact pm_retI hx hb hlk hr hq hP hD hS dX4_withdraw_26 rfl rfl

set_option maxHeartbeats 4000000 in
theorem m_changeClaim_ok (l : Launch) (D : va_G) (h : Nat → Nat) (cI : ClassId) (f : Nat → Int32) (g : Nat → Nat → Int32) (B : Nat) (K : Nat) (N : Nat) (wl : List Nat) (u : Nat) (o : Nat) (k : Nat) (x : Int32) (hI : pc_inv B (g 1) K N wl) (ho : o < N) (hk : k < K) (hu : f 6 = nI u) (hu8 : u ≤ 8) (hr9 : pc_inr x (nI 0) ((g 1) (9 + k)) = true) (hcan : pc_canClaim (g 1) K N o k x = true) : pm_C l yX4_changeClaim (ws_ yX4_changeClaim cX4_changeClaim 4 (some .int)) ({ frames := 15, cells := 0, slots := 0, locals := 346 } : Room) D h cI [.ref (h 0), .int (nI o), .int (nI k), .int (x)] f g (some (.int (pc_of (g 1) o (0 + k)))) (va_up (va_up f 0 (nI 0)) 6 (nI (pc_un u))) (va_up (va_up g 5 (pc_keep g u)) 1 ((pc_serve (pc_lays (g 1) o (0 + k) x) K N wl).2.1)) := by
  refine pm_enter (cc := cX4_changeClaim) (maxL := 4) (ret := (some .int)) (by decide) (Nat.le_of_ble_eq_true rfl) ?_
  intro p e s m below meth c A Qc ls hx hb hml hown hts hlk hA hK hP hD hS hr hq hl
  have hl : lv_has ls 4 [(0, .ref (h 0)), (1, .int (nI o)), (2, .int (nI k)), (3, .int (x))] := hl
  have hN := hI.N0
  have hK0 := hI.K0
  have hN8 := hI.N8
  have hK4 := hI.K4
  have hN1 := hI.N1
  have hK1 := hI.K1
  have hwt := hI.waiting
  have hln := hI.len
  refine lv_aload_n hx hb dX4_changeClaim_0 rfl (lv_at hl 0 rfl) ?_
  refine lv_iconst (v := nI 0) hx hb dX4_changeClaim_1 (by decide) ?_
  refine pm_put0 (f := f) (f2 := (va_up f 0 (nI 0))) hx hb hts hown hK hP hD hS (hts _ q2482) rfl dX4_changeClaim_2 (fun H locs hP hD hS => ?_)
  refine lv_aload_n hx hb dX4_changeClaim_5 rfl (lv_at hl 0 rfl) ?_
  refine lv_iload_n hx hb dX4_changeClaim_6 rfl (lv_at hl 1 rfl) ?_
  refine lv_iload_n hx hb dX4_changeClaim_7 rfl (lv_at hl 2 rfl) ?_
  refine pm_callI (n := 2) [] hx hb hml hown hts hA hK (m_noPair_ok l D h cI (va_up f 0 (nI 0)) g K N o k (by first | assumption | omega | rfl) (by first | assumption | omega | rfl) (by first | assumption | omega | rfl) (by first | assumption | omega | rfl) (by first | assumption | omega | rfl) (by first | assumption | omega | rfl) (by first | assumption | omega | rfl)) (lw_V q2606 q2608 qs60 q122 q2609) ⟨rfl, rfl⟩ (by decide +kernel) ⟨Nat.le_of_ble_eq_true rfl, Nat.le_of_ble_eq_true rfl⟩ hP hD hS rfl hl.1 rfl (Nat.le_of_ble_eq_true rfl) ⟨Nat.zero_le _, Nat.zero_le _⟩ dX4_changeClaim_8 (fun H locs hP hD hS => ?_)
  refine pb_if_ne (tgt := 36) hx hb dX4_changeClaim_11 (by decide) (fun c1 => ?_) (fun c1 => ?_)
  · exfalso; cases c1
  · refine lv_aload_n hx hb dX4_changeClaim_14 rfl (lv_at hl 0 rfl) ?_
    refine lv_iload_n hx hb dX4_changeClaim_15 rfl (lv_at hl 3 rfl) ?_
    refine lv_iconst (v := nI 0) hx hb dX4_changeClaim_16 (by decide) ?_
    refine lv_aload_n hx hb dX4_changeClaim_17 rfl (lv_at hl 0 rfl) ?_
    refine va_get (D := D) (ci := 0) (v := .ref (h 1)) (C := RX4) (T := TX4) (N := 22) hx hb hts in_X4 hown hK hP 0 rfl rfl 1 (by decide) (hts _ q2483) (fun _ h9 => h9) rfl dX4_changeClaim_18 ?_
    refine lv_bipush (v := nI 9) hx hb dX4_changeClaim_21 (by decide) ?_
    refine lv_iload_n hx hb dX4_changeClaim_23 rfl (lv_at hl 2 rfl) ?_
    refine pn_iadd hx hb dX4_changeClaim_24 ?_
    refine pn_iald (e9 := 9 + k) (f := g 1) hx hb hK hP 1 0 rfl rfl (by omega) (by decide) dX4_changeClaim_25 ?_
    refine pp_callS (n := 3) (rest := [.ref (h 0)]) hx hb hml hown hts (m_in_ok l x (nI 0) ((g 1) (9 + k)) (by first | assumption | omega | rfl)) (lw_S q2363 q2364 q122 q2365) ⟨rfl, rfl⟩ (by decide +kernel) ⟨Nat.le_of_ble_eq_true rfl, Nat.le_of_ble_eq_true rfl⟩ rfl hl.1 rfl (Nat.le_of_ble_eq_true rfl) dX4_changeClaim_26 ⟨Nat.zero_le _, Nat.zero_le _⟩ ?_
    refine lv_iconst (v := nI 2) hx hb dX4_changeClaim_29 (by decide) ?_
    refine pm_callI (n := 2) [] hx hb hml hown hts hA hK (m_fails_ok l D h cI (va_up f 0 (nI 0)) g (nI 2) (by first | assumption | omega | rfl)) (lw_V q2366 q2368 qs32 q122 q2369) ⟨rfl, rfl⟩ (by decide +kernel) ⟨Nat.le_of_ble_eq_true rfl, Nat.le_of_ble_eq_true rfl⟩ hP hD hS rfl hl.1 rfl (Nat.le_of_ble_eq_true rfl) ⟨Nat.zero_le _, Nat.zero_le _⟩ dX4_changeClaim_30 (fun H locs hP hD hS => ?_)
    refine pb_if_eq (tgt := 40) hx hb dX4_changeClaim_33 (by decide) (fun c2 => ?_) (fun c2 => ?_)
    · refine lv_aload_n hx hb dX4_changeClaim_40 rfl (lv_at hl 0 rfl) ?_
      refine lv_iconst (v := nI 4) hx hb dX4_changeClaim_41 (by decide) ?_
      refine lv_iload_n hx hb dX4_changeClaim_42 rfl (lv_at hl 1 rfl) ?_
      refine lv_iload_n hx hb dX4_changeClaim_43 rfl (lv_at hl 2 rfl) ?_
      refine lv_iload_n hx hb dX4_changeClaim_44 rfl (lv_at hl 3 rfl) ?_
      refine lv_iconst (v := nI 3) hx hb dX4_changeClaim_45 (by decide) ?_
      refine pm_callI (n := 5) [] hx hb hml hown hts hA hK (m_operates4_ok l D h cI (va_up f 0 (nI 0)) g B K N wl 3 u o k x (by first | assumption | omega | rfl) (by first | assumption | omega | rfl) (by first | assumption | omega | rfl) (by first | assumption | omega | rfl) (by first | assumption | omega | rfl) (by first | assumption | omega | rfl) (by first | assumption | omega | rfl)) (lw_V q2807 q2809 qs81 q122 q2810) ⟨rfl, rfl⟩ (by decide +kernel) ⟨Nat.le_of_ble_eq_true rfl, Nat.le_of_ble_eq_true rfl⟩ hP hD hS rfl hl.1 rfl (Nat.le_of_ble_eq_true rfl) ⟨Nat.zero_le _, Nat.zero_le _⟩ dX4_changeClaim_46 (fun H locs hP hD hS => ?_)
      have hP : va_P D pc_Cl (pm_W h cI (va_up (va_up f 0 (nI 0)) 6 (nI (pc_un u))) (va_up (va_up g 5 (pc_keep g u)) 1 ((pc_serve (pc_lays (g 1) o (0 + k) x) K N wl).2.1))) H := hP
      have hD : va_D A (pm_W h cI (va_up (va_up f 0 (nI 0)) 6 (nI (pc_un u))) (va_up (va_up g 5 (pc_keep g u)) 1 ((pc_serve (pc_lays (g 1) o (0 + k) x) K N wl).2.1))) := hD
      exact pm_retI hx hb hlk hr hq hP hD hS dX4_changeClaim_49 rfl rfl
    · exfalso; cases c2

set_option maxHeartbeats 4000000 in
theorem m_changeClaim_st (l : Launch) (D : va_G) (h : Nat → Nat) (cI : ClassId) (f : Nat → Int32) (g : Nat → Nat → Int32) (B : Nat) (K : Nat) (N : Nat) (wl : List Nat) (o : Nat) (k : Nat) (x : Int32) (hI : pc_inv B (g 1) K N wl) (ho : o < N) (hk : k < K) (hr9 : pc_inr x (nI 0) ((g 1) (9 + k)) = true) (hcan : pc_canClaim (g 1) K N o k x = false) : pm_C l yX4_changeClaim (ws_ yX4_changeClaim cX4_changeClaim 4 (some .int)) ({ frames := 12, cells := 0, slots := 0, locals := 277 } : Room) D h cI [.ref (h 0), .int (nI o), .int (nI k), .int (x)] f g (some (.int (nI 0))) (va_up f 0 (nI 3)) g := by
  refine pm_enter (cc := cX4_changeClaim) (maxL := 4) (ret := (some .int)) (by decide) (Nat.le_of_ble_eq_true rfl) ?_
  intro p e s m below meth c A Qc ls hx hb hml hown hts hlk hA hK hP hD hS hr hq hl
  have hl : lv_has ls 4 [(0, .ref (h 0)), (1, .int (nI o)), (2, .int (nI k)), (3, .int (x))] := hl
  have hN := hI.N0
  have hK0 := hI.K0
  have hN8 := hI.N8
  have hK4 := hI.K4
  have hN1 := hI.N1
  have hK1 := hI.K1
  have hwt := hI.waiting
  have hln := hI.len
  refine lv_aload_n hx hb dX4_changeClaim_0 rfl (lv_at hl 0 rfl) ?_
  refine lv_iconst (v := nI 0) hx hb dX4_changeClaim_1 (by decide) ?_
  refine pm_put0 (f := f) (f2 := (va_up f 0 (nI 0))) hx hb hts hown hK hP hD hS (hts _ q2482) rfl dX4_changeClaim_2 (fun H locs hP hD hS => ?_)
  refine lv_aload_n hx hb dX4_changeClaim_5 rfl (lv_at hl 0 rfl) ?_
  refine lv_iload_n hx hb dX4_changeClaim_6 rfl (lv_at hl 1 rfl) ?_
  refine lv_iload_n hx hb dX4_changeClaim_7 rfl (lv_at hl 2 rfl) ?_
  refine pm_callI (n := 2) [] hx hb hml hown hts hA hK (m_noPair_ok l D h cI (va_up f 0 (nI 0)) g K N o k (by first | assumption | omega | rfl) (by first | assumption | omega | rfl) (by first | assumption | omega | rfl) (by first | assumption | omega | rfl) (by first | assumption | omega | rfl) (by first | assumption | omega | rfl) (by first | assumption | omega | rfl)) (lw_V q2606 q2608 qs60 q122 q2609) ⟨rfl, rfl⟩ (by decide +kernel) ⟨Nat.le_of_ble_eq_true rfl, Nat.le_of_ble_eq_true rfl⟩ hP hD hS rfl hl.1 rfl (Nat.le_of_ble_eq_true rfl) ⟨Nat.zero_le _, Nat.zero_le _⟩ dX4_changeClaim_8 (fun H locs hP hD hS => ?_)
  refine pb_if_ne (tgt := 36) hx hb dX4_changeClaim_11 (by decide) (fun c1 => ?_) (fun c1 => ?_)
  · exfalso; cases c1
  · refine lv_aload_n hx hb dX4_changeClaim_14 rfl (lv_at hl 0 rfl) ?_
    refine lv_iload_n hx hb dX4_changeClaim_15 rfl (lv_at hl 3 rfl) ?_
    refine lv_iconst (v := nI 0) hx hb dX4_changeClaim_16 (by decide) ?_
    refine lv_aload_n hx hb dX4_changeClaim_17 rfl (lv_at hl 0 rfl) ?_
    refine va_get (D := D) (ci := 0) (v := .ref (h 1)) (C := RX4) (T := TX4) (N := 22) hx hb hts in_X4 hown hK hP 0 rfl rfl 1 (by decide) (hts _ q2483) (fun _ h9 => h9) rfl dX4_changeClaim_18 ?_
    refine lv_bipush (v := nI 9) hx hb dX4_changeClaim_21 (by decide) ?_
    refine lv_iload_n hx hb dX4_changeClaim_23 rfl (lv_at hl 2 rfl) ?_
    refine pn_iadd hx hb dX4_changeClaim_24 ?_
    refine pn_iald (e9 := 9 + k) (f := g 1) hx hb hK hP 1 0 rfl rfl (by omega) (by decide) dX4_changeClaim_25 ?_
    refine pp_callS (n := 3) (rest := [.ref (h 0)]) hx hb hml hown hts (m_in_ok l x (nI 0) ((g 1) (9 + k)) (by first | assumption | omega | rfl)) (lw_S q2363 q2364 q122 q2365) ⟨rfl, rfl⟩ (by decide +kernel) ⟨Nat.le_of_ble_eq_true rfl, Nat.le_of_ble_eq_true rfl⟩ rfl hl.1 rfl (Nat.le_of_ble_eq_true rfl) dX4_changeClaim_26 ⟨Nat.zero_le _, Nat.zero_le _⟩ ?_
    refine lv_iconst (v := nI 2) hx hb dX4_changeClaim_29 (by decide) ?_
    refine pm_callI (n := 2) [] hx hb hml hown hts hA hK (m_fails_ok l D h cI (va_up f 0 (nI 0)) g (nI 2) (by first | assumption | omega | rfl)) (lw_V q2366 q2368 qs32 q122 q2369) ⟨rfl, rfl⟩ (by decide +kernel) ⟨Nat.le_of_ble_eq_true rfl, Nat.le_of_ble_eq_true rfl⟩ hP hD hS rfl hl.1 rfl (Nat.le_of_ble_eq_true rfl) ⟨Nat.zero_le _, Nat.zero_le _⟩ dX4_changeClaim_30 (fun H locs hP hD hS => ?_)
    refine pb_if_eq (tgt := 40) hx hb dX4_changeClaim_33 (by decide) (fun c2 => ?_) (fun c2 => ?_)
    · refine lv_aload_n hx hb dX4_changeClaim_40 rfl (lv_at hl 0 rfl) ?_
      refine lv_iconst (v := nI 4) hx hb dX4_changeClaim_41 (by decide) ?_
      refine lv_iload_n hx hb dX4_changeClaim_42 rfl (lv_at hl 1 rfl) ?_
      refine lv_iload_n hx hb dX4_changeClaim_43 rfl (lv_at hl 2 rfl) ?_
      refine lv_iload_n hx hb dX4_changeClaim_44 rfl (lv_at hl 3 rfl) ?_
      refine lv_iconst (v := nI 3) hx hb dX4_changeClaim_45 (by decide) ?_
      refine pm_callI (n := 5) [] hx hb hml hown hts hA hK (m_operates4_no l D h cI (va_up f 0 (nI 0)) g K N 3 o k x (by first | assumption | omega | rfl) (by first | assumption | omega | rfl) (by first | assumption | omega | rfl) (by first | assumption | omega | rfl) (by first | assumption | omega | rfl) (by first | assumption | omega | rfl) (by first | assumption | omega | rfl) (by first | assumption | omega | rfl) (by first | assumption | omega | rfl) (by first | assumption | omega | rfl)) (lw_V q2807 q2809 qs81 q122 q2810) ⟨rfl, rfl⟩ (by decide +kernel) ⟨Nat.le_of_ble_eq_true rfl, Nat.le_of_ble_eq_true rfl⟩ hP hD hS rfl hl.1 rfl (Nat.le_of_ble_eq_true rfl) ⟨Nat.zero_le _, Nat.zero_le _⟩ dX4_changeClaim_46 (fun H locs hP hD hS => ?_)
      have hP : va_P D pc_Cl (pm_W h cI (va_up f 0 (nI 3)) g) H := hP
      have hD : va_D A (pm_W h cI (va_up f 0 (nI 3)) g) := hD
      exact pm_retI hx hb hlk hr hq hP hD hS dX4_changeClaim_49 rfl rfl
    · exfalso; cases c2

set_option maxHeartbeats 4000000 in
theorem m_changeClaim_nr (l : Launch) (D : va_G) (h : Nat → Nat) (cI : ClassId) (f : Nat → Int32) (g : Nat → Nat → Int32) (B : Nat) (K : Nat) (N : Nat) (wl : List Nat) (o : Nat) (k : Nat) (x : Int32) (hI : pc_inv B (g 1) K N wl) (ho : o < N) (hk : k < K) (hr9 : pc_inr x (nI 0) ((g 1) (9 + k)) = false) : pm_C l yX4_changeClaim (ws_ yX4_changeClaim cX4_changeClaim 4 (some .int)) ({ frames := 3, cells := 0, slots := 0, locals := 65 } : Room) D h cI [.ref (h 0), .int (nI o), .int (nI k), .int (x)] f g (some (.int (nI 0))) (va_up f 0 (nI 2)) g := by
  refine pm_enter (cc := cX4_changeClaim) (maxL := 4) (ret := (some .int)) (by decide) (Nat.le_of_ble_eq_true rfl) ?_
  intro p e s m below meth c A Qc ls hx hb hml hown hts hlk hA hK hP hD hS hr hq hl
  have hl : lv_has ls 4 [(0, .ref (h 0)), (1, .int (nI o)), (2, .int (nI k)), (3, .int (x))] := hl
  have hN := hI.N0
  have hK0 := hI.K0
  have hN8 := hI.N8
  have hK4 := hI.K4
  have hN1 := hI.N1
  have hK1 := hI.K1
  have hwt := hI.waiting
  have hln := hI.len
  refine lv_aload_n hx hb dX4_changeClaim_0 rfl (lv_at hl 0 rfl) ?_
  refine lv_iconst (v := nI 0) hx hb dX4_changeClaim_1 (by decide) ?_
  refine pm_put0 (f := f) (f2 := (va_up f 0 (nI 0))) hx hb hts hown hK hP hD hS (hts _ q2482) rfl dX4_changeClaim_2 (fun H locs hP hD hS => ?_)
  refine lv_aload_n hx hb dX4_changeClaim_5 rfl (lv_at hl 0 rfl) ?_
  refine lv_iload_n hx hb dX4_changeClaim_6 rfl (lv_at hl 1 rfl) ?_
  refine lv_iload_n hx hb dX4_changeClaim_7 rfl (lv_at hl 2 rfl) ?_
  refine pm_callI (n := 2) [] hx hb hml hown hts hA hK (m_noPair_ok l D h cI (va_up f 0 (nI 0)) g K N o k (by first | assumption | omega | rfl) (by first | assumption | omega | rfl) (by first | assumption | omega | rfl) (by first | assumption | omega | rfl) (by first | assumption | omega | rfl) (by first | assumption | omega | rfl) (by first | assumption | omega | rfl)) (lw_V q2606 q2608 qs60 q122 q2609) ⟨rfl, rfl⟩ (by decide +kernel) ⟨Nat.le_of_ble_eq_true rfl, Nat.le_of_ble_eq_true rfl⟩ hP hD hS rfl hl.1 rfl (Nat.le_of_ble_eq_true rfl) ⟨Nat.zero_le _, Nat.zero_le _⟩ dX4_changeClaim_8 (fun H locs hP hD hS => ?_)
  refine pb_if_ne (tgt := 36) hx hb dX4_changeClaim_11 (by decide) (fun c1 => ?_) (fun c1 => ?_)
  · exfalso; cases c1
  · refine lv_aload_n hx hb dX4_changeClaim_14 rfl (lv_at hl 0 rfl) ?_
    refine lv_iload_n hx hb dX4_changeClaim_15 rfl (lv_at hl 3 rfl) ?_
    refine lv_iconst (v := nI 0) hx hb dX4_changeClaim_16 (by decide) ?_
    refine lv_aload_n hx hb dX4_changeClaim_17 rfl (lv_at hl 0 rfl) ?_
    refine va_get (D := D) (ci := 0) (v := .ref (h 1)) (C := RX4) (T := TX4) (N := 22) hx hb hts in_X4 hown hK hP 0 rfl rfl 1 (by decide) (hts _ q2483) (fun _ h9 => h9) rfl dX4_changeClaim_18 ?_
    refine lv_bipush (v := nI 9) hx hb dX4_changeClaim_21 (by decide) ?_
    refine lv_iload_n hx hb dX4_changeClaim_23 rfl (lv_at hl 2 rfl) ?_
    refine pn_iadd hx hb dX4_changeClaim_24 ?_
    refine pn_iald (e9 := 9 + k) (f := g 1) hx hb hK hP 1 0 rfl rfl (by omega) (by decide) dX4_changeClaim_25 ?_
    refine pp_callS (n := 3) (rest := [.ref (h 0)]) hx hb hml hown hts (m_in_no l x (nI 0) ((g 1) (9 + k)) (by first | assumption | omega | rfl)) (lw_S q2363 q2364 q122 q2365) ⟨rfl, rfl⟩ (by decide +kernel) ⟨Nat.le_of_ble_eq_true rfl, Nat.le_of_ble_eq_true rfl⟩ rfl hl.1 rfl (Nat.le_of_ble_eq_true rfl) dX4_changeClaim_26 ⟨Nat.zero_le _, Nat.zero_le _⟩ ?_
    refine lv_iconst (v := nI 2) hx hb dX4_changeClaim_29 (by decide) ?_
    refine pm_callI (n := 2) [] hx hb hml hown hts hA hK (m_fails_no l D h cI (va_up f 0 (nI 0)) g 2 (by first | assumption | omega | rfl) (by first | assumption | omega | rfl) (by first | assumption | omega | rfl)) (lw_V q2366 q2368 qs32 q122 q2369) ⟨rfl, rfl⟩ (by decide +kernel) ⟨Nat.le_of_ble_eq_true rfl, Nat.le_of_ble_eq_true rfl⟩ hP hD hS rfl hl.1 rfl (Nat.le_of_ble_eq_true rfl) ⟨Nat.zero_le _, Nat.zero_le _⟩ dX4_changeClaim_30 (fun H locs hP hD hS => ?_)
    have hP : va_P D pc_Cl (pm_W h cI (va_up f 0 (nI 2)) g) H := hP
    have hD : va_D A (pm_W h cI (va_up f 0 (nI 2)) g) := hD
    refine pb_if_eq (tgt := 40) hx hb dX4_changeClaim_33 (by decide) (fun c2 => ?_) (fun c2 => ?_)
    · exfalso; cases c2
    · refine lv_iconst (v := nI 0) hx hb dX4_changeClaim_36 (by decide) ?_
      refine lv_goto (tgt := 49) hx hb dX4_changeClaim_37 (by decide) ?_
      exact pm_retI hx hb hlk hr hq hP hD hS dX4_changeClaim_49 rfl rfl

set_option maxHeartbeats 4000000 in
theorem m_changeClaim_no (l : Launch) (D : va_G) (h : Nat → Nat) (cI : ClassId) (f : Nat → Int32) (g : Nat → Nat → Int32) (B : Nat) (K : Nat) (N : Nat) (wl : List Nat) (x8 : Int32) (y8 : Int32) (z8 : Int32) (hI : pc_inv B (g 1) K N wl) (hx8 : pc_inr x8 (nI 0) (nI (N - 1)) = false) : pm_C l yX4_changeClaim (ws_ yX4_changeClaim cX4_changeClaim 4 (some .int)) ({ frames := 3, cells := 0, slots := 0, locals := 65 } : Room) D h cI [.ref (h 0), .int (x8), .int (y8), .int (z8)] f g (some (.int (nI 0))) (va_up f 0 (nI 1)) g := by
  refine pm_enter (cc := cX4_changeClaim) (maxL := 4) (ret := (some .int)) (by decide) (Nat.le_of_ble_eq_true rfl) ?_
  intro p e s m below meth c A Qc ls hx hb hml hown hts hlk hA hK hP hD hS hr hq hl
  have hl : lv_has ls 4 [(0, .ref (h 0)), (1, .int (x8)), (2, .int (y8)), (3, .int (z8))] := hl
  have hN := hI.N0
  have hK0 := hI.K0
  have hN8 := hI.N8
  have hK4 := hI.K4
  have hN1 := hI.N1
  have hK1 := hI.K1
  have hwt := hI.waiting
  have hln := hI.len
  refine lv_aload_n hx hb dX4_changeClaim_0 rfl (lv_at hl 0 rfl) ?_
  refine lv_iconst (v := nI 0) hx hb dX4_changeClaim_1 (by decide) ?_
  refine pm_put0 (f := f) (f2 := (va_up f 0 (nI 0))) hx hb hts hown hK hP hD hS (hts _ q2482) rfl dX4_changeClaim_2 (fun H locs hP hD hS => ?_)
  refine lv_aload_n hx hb dX4_changeClaim_5 rfl (lv_at hl 0 rfl) ?_
  refine lv_iload_n hx hb dX4_changeClaim_6 rfl (lv_at hl 1 rfl) ?_
  refine lv_iload_n hx hb dX4_changeClaim_7 rfl (lv_at hl 2 rfl) ?_
  refine pm_callI (n := 2) [] hx hb hml hown hts hA hK (m_noPair_no l D h cI (va_up f 0 (nI 0)) g N x8 y8 (by first | assumption | omega | rfl) (by first | assumption | omega | rfl) (by first | assumption | omega | rfl) (by first | assumption | omega | rfl) (by first | assumption | omega | rfl)) (lw_V q2606 q2608 qs60 q122 q2609) ⟨rfl, rfl⟩ (by decide +kernel) ⟨Nat.le_of_ble_eq_true rfl, Nat.le_of_ble_eq_true rfl⟩ hP hD hS rfl hl.1 rfl (Nat.le_of_ble_eq_true rfl) ⟨Nat.zero_le _, Nat.zero_le _⟩ dX4_changeClaim_8 (fun H locs hP hD hS => ?_)
  have hP : va_P D pc_Cl (pm_W h cI (va_up f 0 (nI 1)) g) H := hP
  have hD : va_D A (pm_W h cI (va_up f 0 (nI 1)) g) := hD
  refine pb_if_ne (tgt := 36) hx hb dX4_changeClaim_11 (by decide) (fun c1 => ?_) (fun c1 => ?_)
  · refine lv_iconst (v := nI 0) hx hb dX4_changeClaim_36 (by decide) ?_
    refine lv_goto (tgt := 49) hx hb dX4_changeClaim_37 (by decide) ?_
    exact pm_retI hx hb hlk hr hq hP hD hS dX4_changeClaim_49 rfl rfl
  · exfalso; cases c1

set_option maxHeartbeats 4000000 in
theorem m_changeClaim_nk (l : Launch) (D : va_G) (h : Nat → Nat) (cI : ClassId) (f : Nat → Int32) (g : Nat → Nat → Int32) (B : Nat) (K : Nat) (N : Nat) (wl : List Nat) (o : Nat) (y8 : Int32) (z8 : Int32) (hI : pc_inv B (g 1) K N wl) (ho : o < N) (hx8 : pc_inr y8 (nI 0) (nI (K - 1)) = false) : pm_C l yX4_changeClaim (ws_ yX4_changeClaim cX4_changeClaim 4 (some .int)) ({ frames := 3, cells := 0, slots := 0, locals := 65 } : Room) D h cI [.ref (h 0), .int (nI o), .int (y8), .int (z8)] f g (some (.int (nI 0))) (va_up f 0 (nI 1)) g := by
  refine pm_enter (cc := cX4_changeClaim) (maxL := 4) (ret := (some .int)) (by decide) (Nat.le_of_ble_eq_true rfl) ?_
  intro p e s m below meth c A Qc ls hx hb hml hown hts hlk hA hK hP hD hS hr hq hl
  have hl : lv_has ls 4 [(0, .ref (h 0)), (1, .int (nI o)), (2, .int (y8)), (3, .int (z8))] := hl
  have hN := hI.N0
  have hK0 := hI.K0
  have hN8 := hI.N8
  have hK4 := hI.K4
  have hN1 := hI.N1
  have hK1 := hI.K1
  have hwt := hI.waiting
  have hln := hI.len
  refine lv_aload_n hx hb dX4_changeClaim_0 rfl (lv_at hl 0 rfl) ?_
  refine lv_iconst (v := nI 0) hx hb dX4_changeClaim_1 (by decide) ?_
  refine pm_put0 (f := f) (f2 := (va_up f 0 (nI 0))) hx hb hts hown hK hP hD hS (hts _ q2482) rfl dX4_changeClaim_2 (fun H locs hP hD hS => ?_)
  refine lv_aload_n hx hb dX4_changeClaim_5 rfl (lv_at hl 0 rfl) ?_
  refine lv_iload_n hx hb dX4_changeClaim_6 rfl (lv_at hl 1 rfl) ?_
  refine lv_iload_n hx hb dX4_changeClaim_7 rfl (lv_at hl 2 rfl) ?_
  refine pm_callI (n := 2) [] hx hb hml hown hts hA hK (m_noPair_nk l D h cI (va_up f 0 (nI 0)) g K N o y8 (by first | assumption | omega | rfl) (by first | assumption | omega | rfl) (by first | assumption | omega | rfl) (by first | assumption | omega | rfl) (by first | assumption | omega | rfl) (by first | assumption | omega | rfl) (by first | assumption | omega | rfl) (by first | assumption | omega | rfl)) (lw_V q2606 q2608 qs60 q122 q2609) ⟨rfl, rfl⟩ (by decide +kernel) ⟨Nat.le_of_ble_eq_true rfl, Nat.le_of_ble_eq_true rfl⟩ hP hD hS rfl hl.1 rfl (Nat.le_of_ble_eq_true rfl) ⟨Nat.zero_le _, Nat.zero_le _⟩ dX4_changeClaim_8 (fun H locs hP hD hS => ?_)
  have hP : va_P D pc_Cl (pm_W h cI (va_up f 0 (nI 1)) g) H := hP
  have hD : va_D A (pm_W h cI (va_up f 0 (nI 1)) g) := hD
  refine pb_if_ne (tgt := 36) hx hb dX4_changeClaim_11 (by decide) (fun c1 => ?_) (fun c1 => ?_)
  · refine lv_iconst (v := nI 0) hx hb dX4_changeClaim_36 (by decide) ?_
    refine lv_goto (tgt := 49) hx hb dX4_changeClaim_37 (by decide) ?_
    exact pm_retI hx hb hlk hr hq hP hD hS dX4_changeClaim_49 rfl rfl
  · exfalso; cases c1

set_option maxHeartbeats 4000000 in
theorem m_addPrinters_ok (l : Launch) (D : va_G) (h : Nat → Nat) (cI : ClassId) (f : Nat → Int32) (g : Nat → Nat → Int32) (B : Nat) (K : Nat) (N : Nat) (wl : List Nat) (u : Nat) (k : Nat) (x : Int32) (hI : pc_inv B (g 1) K N wl) (hk : k < K) (hu : f 6 = nI u) (hu8 : u ≤ 8) (hr9 : pc_inr x (nI 1) (nI 20) = true) (hcan : pc_can5 (g 1) k x = true) : pm_C l yX4_addPrinters (ws_ yX4_addPrinters cX4_addPrinters 3 (some .int)) ({ frames := 14, cells := 0, slots := 0, locals := 321 } : Room) D h cI [.ref (h 0), .int (nI k), .int (x)] f g (some (.int (nI (pc_serve (pc_plus (g 1) (9 + k) x) K N wl).1))) (va_up (va_up f 0 (nI 0)) 6 (nI (pc_un u))) (va_up (va_up g 5 (pc_keep g u)) 1 ((pc_serve (pc_plus (g 1) (9 + k) x) K N wl).2.1)) := by
  refine pm_enter (cc := cX4_addPrinters) (maxL := 3) (ret := (some .int)) (by decide) (Nat.le_of_ble_eq_true rfl) ?_
  intro p e s m below meth c A Qc ls hx hb hml hown hts hlk hA hK hP hD hS hr hq hl
  have hl : lv_has ls 3 [(0, .ref (h 0)), (1, .int (nI k)), (2, .int (x))] := hl
  have hN := hI.N0
  have hK0 := hI.K0
  have hN8 := hI.N8
  have hK4 := hI.K4
  have hN1 := hI.N1
  have hK1 := hI.K1
  have hwt := hI.waiting
  have hln := hI.len
  refine lv_aload_n hx hb dX4_addPrinters_0 rfl (lv_at hl 0 rfl) ?_
  refine lv_iconst (v := nI 0) hx hb dX4_addPrinters_1 (by decide) ?_
  refine pm_put0 (f := f) (f2 := (va_up f 0 (nI 0))) hx hb hts hown hK hP hD hS (hts _ q2482) rfl dX4_addPrinters_2 (fun H locs hP hD hS => ?_)
  refine lv_aload_n hx hb dX4_addPrinters_5 rfl (lv_at hl 0 rfl) ?_
  refine lv_iload_n hx hb dX4_addPrinters_6 rfl (lv_at hl 1 rfl) ?_
  refine pm_callI (n := 1) [] hx hb hml hown hts hA hK (m_noKind_ok l D h cI (va_up f 0 (nI 0)) g K k (by first | assumption | omega | rfl) (by first | assumption | omega | rfl) (by first | assumption | omega | rfl) (by first | assumption | omega | rfl)) (lw_V q2574 q2576 qs58 q122 q2577) ⟨rfl, rfl⟩ (by decide +kernel) ⟨Nat.le_of_ble_eq_true rfl, Nat.le_of_ble_eq_true rfl⟩ hP hD hS rfl hl.1 rfl (Nat.le_of_ble_eq_true rfl) ⟨Nat.zero_le _, Nat.zero_le _⟩ dX4_addPrinters_7 (fun H locs hP hD hS => ?_)
  refine pb_if_ne (tgt := 28) hx hb dX4_addPrinters_10 (by decide) (fun c1 => ?_) (fun c1 => ?_)
  · exfalso; cases c1
  · refine lv_aload_n hx hb dX4_addPrinters_13 rfl (lv_at hl 0 rfl) ?_
    refine lv_iload_n hx hb dX4_addPrinters_14 rfl (lv_at hl 2 rfl) ?_
    refine lv_iconst (v := nI 1) hx hb dX4_addPrinters_15 (by decide) ?_
    refine lv_bipush (v := nI 20) hx hb dX4_addPrinters_16 (by decide) ?_
    refine pp_callS (n := 3) (rest := [.ref (h 0)]) hx hb hml hown hts (m_in_ok l x (nI 1) (nI 20) (by first | assumption | omega | rfl)) (lw_S q2363 q2364 q122 q2365) ⟨rfl, rfl⟩ (by decide +kernel) ⟨Nat.le_of_ble_eq_true rfl, Nat.le_of_ble_eq_true rfl⟩ rfl hl.1 rfl (Nat.le_of_ble_eq_true rfl) dX4_addPrinters_18 ⟨Nat.zero_le _, Nat.zero_le _⟩ ?_
    refine lv_iconst (v := nI 2) hx hb dX4_addPrinters_21 (by decide) ?_
    refine pm_callI (n := 2) [] hx hb hml hown hts hA hK (m_fails_ok l D h cI (va_up f 0 (nI 0)) g (nI 2) (by first | assumption | omega | rfl)) (lw_V q2366 q2368 qs32 q122 q2369) ⟨rfl, rfl⟩ (by decide +kernel) ⟨Nat.le_of_ble_eq_true rfl, Nat.le_of_ble_eq_true rfl⟩ hP hD hS rfl hl.1 rfl (Nat.le_of_ble_eq_true rfl) ⟨Nat.zero_le _, Nat.zero_le _⟩ dX4_addPrinters_22 (fun H locs hP hD hS => ?_)
    refine pb_if_eq (tgt := 32) hx hb dX4_addPrinters_25 (by decide) (fun c2 => ?_) (fun c2 => ?_)
    · refine lv_aload_n hx hb dX4_addPrinters_32 rfl (lv_at hl 0 rfl) ?_
      refine lv_iconst (v := nI 5) hx hb dX4_addPrinters_33 (by decide) ?_
      refine lv_iload_n hx hb dX4_addPrinters_34 rfl (lv_at hl 1 rfl) ?_
      refine lv_iload_n hx hb dX4_addPrinters_35 rfl (lv_at hl 2 rfl) ?_
      refine lv_iconst (v := nI 0) hx hb dX4_addPrinters_36 (by decide) ?_
      refine lv_iconst (v := nI 3) hx hb dX4_addPrinters_37 (by decide) ?_
      refine pm_callI (n := 5) [] hx hb hml hown hts hA hK (m_operates5_ok l D h cI (va_up f 0 (nI 0)) g B K N wl 3 u k x (nI 0) (by first | assumption | omega | rfl) (by first | assumption | omega | rfl) (by first | assumption | omega | rfl) (by first | assumption | omega | rfl) (by first | assumption | omega | rfl) (by first | assumption | omega | rfl)) (lw_V q2807 q2809 qs81 q122 q2810) ⟨rfl, rfl⟩ (by decide +kernel) ⟨Nat.le_of_ble_eq_true rfl, Nat.le_of_ble_eq_true rfl⟩ hP hD hS rfl hl.1 rfl (Nat.le_of_ble_eq_true rfl) ⟨Nat.zero_le _, Nat.zero_le _⟩ dX4_addPrinters_38 (fun H locs hP hD hS => ?_)
      have hP : va_P D pc_Cl (pm_W h cI (va_up (va_up f 0 (nI 0)) 6 (nI (pc_un u))) (va_up (va_up g 5 (pc_keep g u)) 1 ((pc_serve (pc_plus (g 1) (9 + k) x) K N wl).2.1))) H := hP
      have hD : va_D A (pm_W h cI (va_up (va_up f 0 (nI 0)) 6 (nI (pc_un u))) (va_up (va_up g 5 (pc_keep g u)) 1 ((pc_serve (pc_plus (g 1) (9 + k) x) K N wl).2.1))) := hD
      exact pm_retI hx hb hlk hr hq hP hD hS dX4_addPrinters_41 rfl rfl
    · exfalso; cases c2

set_option maxHeartbeats 4000000 in
theorem m_addPrinters_st (l : Launch) (D : va_G) (h : Nat → Nat) (cI : ClassId) (f : Nat → Int32) (g : Nat → Nat → Int32) (B : Nat) (K : Nat) (N : Nat) (wl : List Nat) (k : Nat) (x : Int32) (hI : pc_inv B (g 1) K N wl) (hk : k < K) (hr9 : pc_inr x (nI 1) (nI 20) = true) (hcan : pc_can5 (g 1) k x = false) : pm_C l yX4_addPrinters (ws_ yX4_addPrinters cX4_addPrinters 3 (some .int)) ({ frames := 2, cells := 0, slots := 0, locals := 49 } : Room) D h cI [.ref (h 0), .int (nI k), .int (x)] f g (some (.int (nI 0))) (va_up f 0 (nI 3)) g := by
  refine pm_enter (cc := cX4_addPrinters) (maxL := 3) (ret := (some .int)) (by decide) (Nat.le_of_ble_eq_true rfl) ?_
  intro p e s m below meth c A Qc ls hx hb hml hown hts hlk hA hK hP hD hS hr hq hl
  have hl : lv_has ls 3 [(0, .ref (h 0)), (1, .int (nI k)), (2, .int (x))] := hl
  have hN := hI.N0
  have hK0 := hI.K0
  have hN8 := hI.N8
  have hK4 := hI.K4
  have hN1 := hI.N1
  have hK1 := hI.K1
  have hwt := hI.waiting
  have hln := hI.len
  refine lv_aload_n hx hb dX4_addPrinters_0 rfl (lv_at hl 0 rfl) ?_
  refine lv_iconst (v := nI 0) hx hb dX4_addPrinters_1 (by decide) ?_
  refine pm_put0 (f := f) (f2 := (va_up f 0 (nI 0))) hx hb hts hown hK hP hD hS (hts _ q2482) rfl dX4_addPrinters_2 (fun H locs hP hD hS => ?_)
  refine lv_aload_n hx hb dX4_addPrinters_5 rfl (lv_at hl 0 rfl) ?_
  refine lv_iload_n hx hb dX4_addPrinters_6 rfl (lv_at hl 1 rfl) ?_
  refine pm_callI (n := 1) [] hx hb hml hown hts hA hK (m_noKind_ok l D h cI (va_up f 0 (nI 0)) g K k (by first | assumption | omega | rfl) (by first | assumption | omega | rfl) (by first | assumption | omega | rfl) (by first | assumption | omega | rfl)) (lw_V q2574 q2576 qs58 q122 q2577) ⟨rfl, rfl⟩ (by decide +kernel) ⟨Nat.le_of_ble_eq_true rfl, Nat.le_of_ble_eq_true rfl⟩ hP hD hS rfl hl.1 rfl (Nat.le_of_ble_eq_true rfl) ⟨Nat.zero_le _, Nat.zero_le _⟩ dX4_addPrinters_7 (fun H locs hP hD hS => ?_)
  refine pb_if_ne (tgt := 28) hx hb dX4_addPrinters_10 (by decide) (fun c1 => ?_) (fun c1 => ?_)
  · exfalso; cases c1
  · refine lv_aload_n hx hb dX4_addPrinters_13 rfl (lv_at hl 0 rfl) ?_
    refine lv_iload_n hx hb dX4_addPrinters_14 rfl (lv_at hl 2 rfl) ?_
    refine lv_iconst (v := nI 1) hx hb dX4_addPrinters_15 (by decide) ?_
    refine lv_bipush (v := nI 20) hx hb dX4_addPrinters_16 (by decide) ?_
    refine pp_callS (n := 3) (rest := [.ref (h 0)]) hx hb hml hown hts (m_in_ok l x (nI 1) (nI 20) (by first | assumption | omega | rfl)) (lw_S q2363 q2364 q122 q2365) ⟨rfl, rfl⟩ (by decide +kernel) ⟨Nat.le_of_ble_eq_true rfl, Nat.le_of_ble_eq_true rfl⟩ rfl hl.1 rfl (Nat.le_of_ble_eq_true rfl) dX4_addPrinters_18 ⟨Nat.zero_le _, Nat.zero_le _⟩ ?_
    refine lv_iconst (v := nI 2) hx hb dX4_addPrinters_21 (by decide) ?_
    refine pm_callI (n := 2) [] hx hb hml hown hts hA hK (m_fails_ok l D h cI (va_up f 0 (nI 0)) g (nI 2) (by first | assumption | omega | rfl)) (lw_V q2366 q2368 qs32 q122 q2369) ⟨rfl, rfl⟩ (by decide +kernel) ⟨Nat.le_of_ble_eq_true rfl, Nat.le_of_ble_eq_true rfl⟩ hP hD hS rfl hl.1 rfl (Nat.le_of_ble_eq_true rfl) ⟨Nat.zero_le _, Nat.zero_le _⟩ dX4_addPrinters_22 (fun H locs hP hD hS => ?_)
    refine pb_if_eq (tgt := 32) hx hb dX4_addPrinters_25 (by decide) (fun c2 => ?_) (fun c2 => ?_)
    · refine lv_aload_n hx hb dX4_addPrinters_32 rfl (lv_at hl 0 rfl) ?_
      refine lv_iconst (v := nI 5) hx hb dX4_addPrinters_33 (by decide) ?_
      refine lv_iload_n hx hb dX4_addPrinters_34 rfl (lv_at hl 1 rfl) ?_
      refine lv_iload_n hx hb dX4_addPrinters_35 rfl (lv_at hl 2 rfl) ?_
      refine lv_iconst (v := nI 0) hx hb dX4_addPrinters_36 (by decide) ?_
      refine lv_iconst (v := nI 3) hx hb dX4_addPrinters_37 (by decide) ?_
      refine pm_callI (n := 5) [] hx hb hml hown hts hA hK (m_operates5_no l D h cI (va_up f 0 (nI 0)) g K N 3 k x (nI 0) (by first | assumption | omega | rfl) (by first | assumption | omega | rfl) (by first | assumption | omega | rfl) (by first | assumption | omega | rfl) (by first | assumption | omega | rfl) (by first | assumption | omega | rfl) (by first | assumption | omega | rfl) (by first | assumption | omega | rfl) (by first | assumption | omega | rfl)) (lw_V q2807 q2809 qs81 q122 q2810) ⟨rfl, rfl⟩ (by decide +kernel) ⟨Nat.le_of_ble_eq_true rfl, Nat.le_of_ble_eq_true rfl⟩ hP hD hS rfl hl.1 rfl (Nat.le_of_ble_eq_true rfl) ⟨Nat.zero_le _, Nat.zero_le _⟩ dX4_addPrinters_38 (fun H locs hP hD hS => ?_)
      have hP : va_P D pc_Cl (pm_W h cI (va_up f 0 (nI 3)) g) H := hP
      have hD : va_D A (pm_W h cI (va_up f 0 (nI 3)) g) := hD
      exact pm_retI hx hb hlk hr hq hP hD hS dX4_addPrinters_41 rfl rfl
    · exfalso; cases c2

set_option maxHeartbeats 4000000 in
theorem m_addPrinters_nr (l : Launch) (D : va_G) (h : Nat → Nat) (cI : ClassId) (f : Nat → Int32) (g : Nat → Nat → Int32) (B : Nat) (K : Nat) (N : Nat) (wl : List Nat) (k : Nat) (x : Int32) (hI : pc_inv B (g 1) K N wl) (hk : k < K) (hr9 : pc_inr x (nI 1) (nI 20) = false) : pm_C l yX4_addPrinters (ws_ yX4_addPrinters cX4_addPrinters 3 (some .int)) ({ frames := 2, cells := 0, slots := 0, locals := 43 } : Room) D h cI [.ref (h 0), .int (nI k), .int (x)] f g (some (.int (nI 0))) (va_up f 0 (nI 2)) g := by
  refine pm_enter (cc := cX4_addPrinters) (maxL := 3) (ret := (some .int)) (by decide) (Nat.le_of_ble_eq_true rfl) ?_
  intro p e s m below meth c A Qc ls hx hb hml hown hts hlk hA hK hP hD hS hr hq hl
  have hl : lv_has ls 3 [(0, .ref (h 0)), (1, .int (nI k)), (2, .int (x))] := hl
  have hN := hI.N0
  have hK0 := hI.K0
  have hN8 := hI.N8
  have hK4 := hI.K4
  have hN1 := hI.N1
  have hK1 := hI.K1
  have hwt := hI.waiting
  have hln := hI.len
  refine lv_aload_n hx hb dX4_addPrinters_0 rfl (lv_at hl 0 rfl) ?_
  refine lv_iconst (v := nI 0) hx hb dX4_addPrinters_1 (by decide) ?_
  refine pm_put0 (f := f) (f2 := (va_up f 0 (nI 0))) hx hb hts hown hK hP hD hS (hts _ q2482) rfl dX4_addPrinters_2 (fun H locs hP hD hS => ?_)
  refine lv_aload_n hx hb dX4_addPrinters_5 rfl (lv_at hl 0 rfl) ?_
  refine lv_iload_n hx hb dX4_addPrinters_6 rfl (lv_at hl 1 rfl) ?_
  refine pm_callI (n := 1) [] hx hb hml hown hts hA hK (m_noKind_ok l D h cI (va_up f 0 (nI 0)) g K k (by first | assumption | omega | rfl) (by first | assumption | omega | rfl) (by first | assumption | omega | rfl) (by first | assumption | omega | rfl)) (lw_V q2574 q2576 qs58 q122 q2577) ⟨rfl, rfl⟩ (by decide +kernel) ⟨Nat.le_of_ble_eq_true rfl, Nat.le_of_ble_eq_true rfl⟩ hP hD hS rfl hl.1 rfl (Nat.le_of_ble_eq_true rfl) ⟨Nat.zero_le _, Nat.zero_le _⟩ dX4_addPrinters_7 (fun H locs hP hD hS => ?_)
  refine pb_if_ne (tgt := 28) hx hb dX4_addPrinters_10 (by decide) (fun c1 => ?_) (fun c1 => ?_)
  · exfalso; cases c1
  · refine lv_aload_n hx hb dX4_addPrinters_13 rfl (lv_at hl 0 rfl) ?_
    refine lv_iload_n hx hb dX4_addPrinters_14 rfl (lv_at hl 2 rfl) ?_
    refine lv_iconst (v := nI 1) hx hb dX4_addPrinters_15 (by decide) ?_
    refine lv_bipush (v := nI 20) hx hb dX4_addPrinters_16 (by decide) ?_
    refine pp_callS (n := 3) (rest := [.ref (h 0)]) hx hb hml hown hts (m_in_no l x (nI 1) (nI 20) (by first | assumption | omega | rfl)) (lw_S q2363 q2364 q122 q2365) ⟨rfl, rfl⟩ (by decide +kernel) ⟨Nat.le_of_ble_eq_true rfl, Nat.le_of_ble_eq_true rfl⟩ rfl hl.1 rfl (Nat.le_of_ble_eq_true rfl) dX4_addPrinters_18 ⟨Nat.zero_le _, Nat.zero_le _⟩ ?_
    refine lv_iconst (v := nI 2) hx hb dX4_addPrinters_21 (by decide) ?_
    refine pm_callI (n := 2) [] hx hb hml hown hts hA hK (m_fails_no l D h cI (va_up f 0 (nI 0)) g 2 (by first | assumption | omega | rfl) (by first | assumption | omega | rfl) (by first | assumption | omega | rfl)) (lw_V q2366 q2368 qs32 q122 q2369) ⟨rfl, rfl⟩ (by decide +kernel) ⟨Nat.le_of_ble_eq_true rfl, Nat.le_of_ble_eq_true rfl⟩ hP hD hS rfl hl.1 rfl (Nat.le_of_ble_eq_true rfl) ⟨Nat.zero_le _, Nat.zero_le _⟩ dX4_addPrinters_22 (fun H locs hP hD hS => ?_)
    have hP : va_P D pc_Cl (pm_W h cI (va_up f 0 (nI 2)) g) H := hP
    have hD : va_D A (pm_W h cI (va_up f 0 (nI 2)) g) := hD
    refine pb_if_eq (tgt := 32) hx hb dX4_addPrinters_25 (by decide) (fun c2 => ?_) (fun c2 => ?_)
    · exfalso; cases c2
    · refine lv_iconst (v := nI 0) hx hb dX4_addPrinters_28 (by decide) ?_
      refine lv_goto (tgt := 41) hx hb dX4_addPrinters_29 (by decide) ?_
      exact pm_retI hx hb hlk hr hq hP hD hS dX4_addPrinters_41 rfl rfl

set_option maxHeartbeats 4000000 in
theorem m_addPrinters_no (l : Launch) (D : va_G) (h : Nat → Nat) (cI : ClassId) (f : Nat → Int32) (g : Nat → Nat → Int32) (B : Nat) (K : Nat) (N : Nat) (wl : List Nat) (x8 : Int32) (y8 : Int32) (hI : pc_inv B (g 1) K N wl) (hx8 : pc_inr x8 (nI 0) (nI (K - 1)) = false) : pm_C l yX4_addPrinters (ws_ yX4_addPrinters cX4_addPrinters 3 (some .int)) ({ frames := 2, cells := 0, slots := 0, locals := 43 } : Room) D h cI [.ref (h 0), .int (x8), .int (y8)] f g (some (.int (nI 0))) (va_up f 0 (nI 1)) g := by
  refine pm_enter (cc := cX4_addPrinters) (maxL := 3) (ret := (some .int)) (by decide) (Nat.le_of_ble_eq_true rfl) ?_
  intro p e s m below meth c A Qc ls hx hb hml hown hts hlk hA hK hP hD hS hr hq hl
  have hl : lv_has ls 3 [(0, .ref (h 0)), (1, .int (x8)), (2, .int (y8))] := hl
  have hN := hI.N0
  have hK0 := hI.K0
  have hN8 := hI.N8
  have hK4 := hI.K4
  have hN1 := hI.N1
  have hK1 := hI.K1
  have hwt := hI.waiting
  have hln := hI.len
  refine lv_aload_n hx hb dX4_addPrinters_0 rfl (lv_at hl 0 rfl) ?_
  refine lv_iconst (v := nI 0) hx hb dX4_addPrinters_1 (by decide) ?_
  refine pm_put0 (f := f) (f2 := (va_up f 0 (nI 0))) hx hb hts hown hK hP hD hS (hts _ q2482) rfl dX4_addPrinters_2 (fun H locs hP hD hS => ?_)
  refine lv_aload_n hx hb dX4_addPrinters_5 rfl (lv_at hl 0 rfl) ?_
  refine lv_iload_n hx hb dX4_addPrinters_6 rfl (lv_at hl 1 rfl) ?_
  refine pm_callI (n := 1) [] hx hb hml hown hts hA hK (m_noKind_no l D h cI (va_up f 0 (nI 0)) g K x8 (by first | assumption | omega | rfl) (by first | assumption | omega | rfl) (by first | assumption | omega | rfl) (by first | assumption | omega | rfl) (by first | assumption | omega | rfl)) (lw_V q2574 q2576 qs58 q122 q2577) ⟨rfl, rfl⟩ (by decide +kernel) ⟨Nat.le_of_ble_eq_true rfl, Nat.le_of_ble_eq_true rfl⟩ hP hD hS rfl hl.1 rfl (Nat.le_of_ble_eq_true rfl) ⟨Nat.zero_le _, Nat.zero_le _⟩ dX4_addPrinters_7 (fun H locs hP hD hS => ?_)
  have hP : va_P D pc_Cl (pm_W h cI (va_up f 0 (nI 1)) g) H := hP
  have hD : va_D A (pm_W h cI (va_up f 0 (nI 1)) g) := hD
  refine pb_if_ne (tgt := 28) hx hb dX4_addPrinters_10 (by decide) (fun c1 => ?_) (fun c1 => ?_)
  · refine lv_iconst (v := nI 0) hx hb dX4_addPrinters_28 (by decide) ?_
    refine lv_goto (tgt := 41) hx hb dX4_addPrinters_29 (by decide) ?_
    exact pm_retI hx hb hlk hr hq hP hD hS dX4_addPrinters_41 rfl rfl
  · exfalso; cases c1

set_option maxHeartbeats 4000000 in
theorem m_retirePrinters_ok (l : Launch) (D : va_G) (h : Nat → Nat) (cI : ClassId) (f : Nat → Int32) (g : Nat → Nat → Int32) (B : Nat) (K : Nat) (N : Nat) (wl : List Nat) (u : Nat) (k : Nat) (x : Int32) (hI : pc_inv B (g 1) K N wl) (hk : k < K) (hu : f 6 = nI u) (hu8 : u ≤ 8) (hr9 : pc_inr x (nI 1) (nI 20) = true) (hcan : pc_canRetire (g 1) K N k x = true) : pm_C l yX4_retirePrinters (ws_ yX4_retirePrinters cX4_retirePrinters 3 (some .int)) ({ frames := 11, cells := 0, slots := 0, locals := 251 } : Room) D h cI [.ref (h 0), .int (nI k), .int (x)] f g (some (.int ((pc_retires (g 1) k x) (9 + k)))) (va_up (va_up f 0 (nI 0)) 6 (nI (pc_un u))) (va_up (va_up g 5 (pc_keep g u)) 1 (pc_retires (g 1) k x)) := by
  refine pm_enter (cc := cX4_retirePrinters) (maxL := 3) (ret := (some .int)) (by decide) (Nat.le_of_ble_eq_true rfl) ?_
  intro p e s m below meth c A Qc ls hx hb hml hown hts hlk hA hK hP hD hS hr hq hl
  have hl : lv_has ls 3 [(0, .ref (h 0)), (1, .int (nI k)), (2, .int (x))] := hl
  have hN := hI.N0
  have hK0 := hI.K0
  have hN8 := hI.N8
  have hK4 := hI.K4
  have hN1 := hI.N1
  have hK1 := hI.K1
  have hwt := hI.waiting
  have hln := hI.len
  refine lv_aload_n hx hb dX4_retirePrinters_0 rfl (lv_at hl 0 rfl) ?_
  refine lv_iconst (v := nI 0) hx hb dX4_retirePrinters_1 (by decide) ?_
  refine pm_put0 (f := f) (f2 := (va_up f 0 (nI 0))) hx hb hts hown hK hP hD hS (hts _ q2482) rfl dX4_retirePrinters_2 (fun H locs hP hD hS => ?_)
  refine lv_aload_n hx hb dX4_retirePrinters_5 rfl (lv_at hl 0 rfl) ?_
  refine lv_iload_n hx hb dX4_retirePrinters_6 rfl (lv_at hl 1 rfl) ?_
  refine pm_callI (n := 1) [] hx hb hml hown hts hA hK (m_noKind_ok l D h cI (va_up f 0 (nI 0)) g K k (by first | assumption | omega | rfl) (by first | assumption | omega | rfl) (by first | assumption | omega | rfl) (by first | assumption | omega | rfl)) (lw_V q2574 q2576 qs58 q122 q2577) ⟨rfl, rfl⟩ (by decide +kernel) ⟨Nat.le_of_ble_eq_true rfl, Nat.le_of_ble_eq_true rfl⟩ hP hD hS rfl hl.1 rfl (Nat.le_of_ble_eq_true rfl) ⟨Nat.zero_le _, Nat.zero_le _⟩ dX4_retirePrinters_7 (fun H locs hP hD hS => ?_)
  refine pb_if_ne (tgt := 28) hx hb dX4_retirePrinters_10 (by decide) (fun c1 => ?_) (fun c1 => ?_)
  · exfalso; cases c1
  · refine lv_aload_n hx hb dX4_retirePrinters_13 rfl (lv_at hl 0 rfl) ?_
    refine lv_iload_n hx hb dX4_retirePrinters_14 rfl (lv_at hl 2 rfl) ?_
    refine lv_iconst (v := nI 1) hx hb dX4_retirePrinters_15 (by decide) ?_
    refine lv_bipush (v := nI 20) hx hb dX4_retirePrinters_16 (by decide) ?_
    refine pp_callS (n := 3) (rest := [.ref (h 0)]) hx hb hml hown hts (m_in_ok l x (nI 1) (nI 20) (by first | assumption | omega | rfl)) (lw_S q2363 q2364 q122 q2365) ⟨rfl, rfl⟩ (by decide +kernel) ⟨Nat.le_of_ble_eq_true rfl, Nat.le_of_ble_eq_true rfl⟩ rfl hl.1 rfl (Nat.le_of_ble_eq_true rfl) dX4_retirePrinters_18 ⟨Nat.zero_le _, Nat.zero_le _⟩ ?_
    refine lv_iconst (v := nI 2) hx hb dX4_retirePrinters_21 (by decide) ?_
    refine pm_callI (n := 2) [] hx hb hml hown hts hA hK (m_fails_ok l D h cI (va_up f 0 (nI 0)) g (nI 2) (by first | assumption | omega | rfl)) (lw_V q2366 q2368 qs32 q122 q2369) ⟨rfl, rfl⟩ (by decide +kernel) ⟨Nat.le_of_ble_eq_true rfl, Nat.le_of_ble_eq_true rfl⟩ hP hD hS rfl hl.1 rfl (Nat.le_of_ble_eq_true rfl) ⟨Nat.zero_le _, Nat.zero_le _⟩ dX4_retirePrinters_22 (fun H locs hP hD hS => ?_)
    refine pb_if_eq (tgt := 32) hx hb dX4_retirePrinters_25 (by decide) (fun c2 => ?_) (fun c2 => ?_)
    · refine lv_aload_n hx hb dX4_retirePrinters_32 rfl (lv_at hl 0 rfl) ?_
      refine lv_bipush (v := nI 6) hx hb dX4_retirePrinters_33 (by decide) ?_
      refine lv_iload_n hx hb dX4_retirePrinters_35 rfl (lv_at hl 1 rfl) ?_
      refine lv_iload_n hx hb dX4_retirePrinters_36 rfl (lv_at hl 2 rfl) ?_
      refine lv_iconst (v := nI 0) hx hb dX4_retirePrinters_37 (by decide) ?_
      refine lv_iconst (v := nI 3) hx hb dX4_retirePrinters_38 (by decide) ?_
      refine pm_callI (n := 5) [] hx hb hml hown hts hA hK (m_operates6_ok l D h cI (va_up f 0 (nI 0)) g B K N wl 3 u k x (nI 0) (by first | assumption | omega | rfl) (by first | assumption | omega | rfl) (by first | assumption | omega | rfl) (by first | assumption | omega | rfl) (by first | assumption | omega | rfl) (by first | assumption | omega | rfl)) (lw_V q2807 q2809 qs81 q122 q2810) ⟨rfl, rfl⟩ (by decide +kernel) ⟨Nat.le_of_ble_eq_true rfl, Nat.le_of_ble_eq_true rfl⟩ hP hD hS rfl hl.1 rfl (Nat.le_of_ble_eq_true rfl) ⟨Nat.zero_le _, Nat.zero_le _⟩ dX4_retirePrinters_39 (fun H locs hP hD hS => ?_)
      have hP : va_P D pc_Cl (pm_W h cI (va_up (va_up f 0 (nI 0)) 6 (nI (pc_un u))) (va_up (va_up g 5 (pc_keep g u)) 1 (pc_retires (g 1) k x))) H := hP
      have hD : va_D A (pm_W h cI (va_up (va_up f 0 (nI 0)) 6 (nI (pc_un u))) (va_up (va_up g 5 (pc_keep g u)) 1 (pc_retires (g 1) k x))) := hD
      exact pm_retI hx hb hlk hr hq hP hD hS dX4_retirePrinters_42 rfl rfl
    · exfalso; cases c2

set_option maxHeartbeats 4000000 in
theorem m_retirePrinters_st (l : Launch) (D : va_G) (h : Nat → Nat) (cI : ClassId) (f : Nat → Int32) (g : Nat → Nat → Int32) (B : Nat) (K : Nat) (N : Nat) (wl : List Nat) (k : Nat) (x : Int32) (hI : pc_inv B (g 1) K N wl) (hk : k < K) (hr9 : pc_inr x (nI 1) (nI 20) = true) (hcan : pc_canRetire (g 1) K N k x = false) : pm_C l yX4_retirePrinters (ws_ yX4_retirePrinters cX4_retirePrinters 3 (some .int)) ({ frames := 11, cells := 0, slots := 0, locals := 251 } : Room) D h cI [.ref (h 0), .int (nI k), .int (x)] f g (some (.int (nI 0))) (va_up f 0 (nI 3)) g := by
  refine pm_enter (cc := cX4_retirePrinters) (maxL := 3) (ret := (some .int)) (by decide) (Nat.le_of_ble_eq_true rfl) ?_
  intro p e s m below meth c A Qc ls hx hb hml hown hts hlk hA hK hP hD hS hr hq hl
  have hl : lv_has ls 3 [(0, .ref (h 0)), (1, .int (nI k)), (2, .int (x))] := hl
  have hN := hI.N0
  have hK0 := hI.K0
  have hN8 := hI.N8
  have hK4 := hI.K4
  have hN1 := hI.N1
  have hK1 := hI.K1
  have hwt := hI.waiting
  have hln := hI.len
  refine lv_aload_n hx hb dX4_retirePrinters_0 rfl (lv_at hl 0 rfl) ?_
  refine lv_iconst (v := nI 0) hx hb dX4_retirePrinters_1 (by decide) ?_
  refine pm_put0 (f := f) (f2 := (va_up f 0 (nI 0))) hx hb hts hown hK hP hD hS (hts _ q2482) rfl dX4_retirePrinters_2 (fun H locs hP hD hS => ?_)
  refine lv_aload_n hx hb dX4_retirePrinters_5 rfl (lv_at hl 0 rfl) ?_
  refine lv_iload_n hx hb dX4_retirePrinters_6 rfl (lv_at hl 1 rfl) ?_
  refine pm_callI (n := 1) [] hx hb hml hown hts hA hK (m_noKind_ok l D h cI (va_up f 0 (nI 0)) g K k (by first | assumption | omega | rfl) (by first | assumption | omega | rfl) (by first | assumption | omega | rfl) (by first | assumption | omega | rfl)) (lw_V q2574 q2576 qs58 q122 q2577) ⟨rfl, rfl⟩ (by decide +kernel) ⟨Nat.le_of_ble_eq_true rfl, Nat.le_of_ble_eq_true rfl⟩ hP hD hS rfl hl.1 rfl (Nat.le_of_ble_eq_true rfl) ⟨Nat.zero_le _, Nat.zero_le _⟩ dX4_retirePrinters_7 (fun H locs hP hD hS => ?_)
  refine pb_if_ne (tgt := 28) hx hb dX4_retirePrinters_10 (by decide) (fun c1 => ?_) (fun c1 => ?_)
  · exfalso; cases c1
  · refine lv_aload_n hx hb dX4_retirePrinters_13 rfl (lv_at hl 0 rfl) ?_
    refine lv_iload_n hx hb dX4_retirePrinters_14 rfl (lv_at hl 2 rfl) ?_
    refine lv_iconst (v := nI 1) hx hb dX4_retirePrinters_15 (by decide) ?_
    refine lv_bipush (v := nI 20) hx hb dX4_retirePrinters_16 (by decide) ?_
    refine pp_callS (n := 3) (rest := [.ref (h 0)]) hx hb hml hown hts (m_in_ok l x (nI 1) (nI 20) (by first | assumption | omega | rfl)) (lw_S q2363 q2364 q122 q2365) ⟨rfl, rfl⟩ (by decide +kernel) ⟨Nat.le_of_ble_eq_true rfl, Nat.le_of_ble_eq_true rfl⟩ rfl hl.1 rfl (Nat.le_of_ble_eq_true rfl) dX4_retirePrinters_18 ⟨Nat.zero_le _, Nat.zero_le _⟩ ?_
    refine lv_iconst (v := nI 2) hx hb dX4_retirePrinters_21 (by decide) ?_
    refine pm_callI (n := 2) [] hx hb hml hown hts hA hK (m_fails_ok l D h cI (va_up f 0 (nI 0)) g (nI 2) (by first | assumption | omega | rfl)) (lw_V q2366 q2368 qs32 q122 q2369) ⟨rfl, rfl⟩ (by decide +kernel) ⟨Nat.le_of_ble_eq_true rfl, Nat.le_of_ble_eq_true rfl⟩ hP hD hS rfl hl.1 rfl (Nat.le_of_ble_eq_true rfl) ⟨Nat.zero_le _, Nat.zero_le _⟩ dX4_retirePrinters_22 (fun H locs hP hD hS => ?_)
    refine pb_if_eq (tgt := 32) hx hb dX4_retirePrinters_25 (by decide) (fun c2 => ?_) (fun c2 => ?_)
    · refine lv_aload_n hx hb dX4_retirePrinters_32 rfl (lv_at hl 0 rfl) ?_
      refine lv_bipush (v := nI 6) hx hb dX4_retirePrinters_33 (by decide) ?_
      refine lv_iload_n hx hb dX4_retirePrinters_35 rfl (lv_at hl 1 rfl) ?_
      refine lv_iload_n hx hb dX4_retirePrinters_36 rfl (lv_at hl 2 rfl) ?_
      refine lv_iconst (v := nI 0) hx hb dX4_retirePrinters_37 (by decide) ?_
      refine lv_iconst (v := nI 3) hx hb dX4_retirePrinters_38 (by decide) ?_
      refine pm_callI (n := 5) [] hx hb hml hown hts hA hK (m_operates6_no l D h cI (va_up f 0 (nI 0)) g K N 3 k x (nI 0) (by first | assumption | omega | rfl) (by first | assumption | omega | rfl) (by first | assumption | omega | rfl) (by first | assumption | omega | rfl) (by first | assumption | omega | rfl) (by first | assumption | omega | rfl) (by first | assumption | omega | rfl) (by first | assumption | omega | rfl) (by first | assumption | omega | rfl)) (lw_V q2807 q2809 qs81 q122 q2810) ⟨rfl, rfl⟩ (by decide +kernel) ⟨Nat.le_of_ble_eq_true rfl, Nat.le_of_ble_eq_true rfl⟩ hP hD hS rfl hl.1 rfl (Nat.le_of_ble_eq_true rfl) ⟨Nat.zero_le _, Nat.zero_le _⟩ dX4_retirePrinters_39 (fun H locs hP hD hS => ?_)
      have hP : va_P D pc_Cl (pm_W h cI (va_up f 0 (nI 3)) g) H := hP
      have hD : va_D A (pm_W h cI (va_up f 0 (nI 3)) g) := hD
      exact pm_retI hx hb hlk hr hq hP hD hS dX4_retirePrinters_42 rfl rfl
    · exfalso; cases c2

set_option maxHeartbeats 4000000 in
theorem m_retirePrinters_nr (l : Launch) (D : va_G) (h : Nat → Nat) (cI : ClassId) (f : Nat → Int32) (g : Nat → Nat → Int32) (B : Nat) (K : Nat) (N : Nat) (wl : List Nat) (k : Nat) (x : Int32) (hI : pc_inv B (g 1) K N wl) (hk : k < K) (hr9 : pc_inr x (nI 1) (nI 20) = false) : pm_C l yX4_retirePrinters (ws_ yX4_retirePrinters cX4_retirePrinters 3 (some .int)) ({ frames := 2, cells := 0, slots := 0, locals := 43 } : Room) D h cI [.ref (h 0), .int (nI k), .int (x)] f g (some (.int (nI 0))) (va_up f 0 (nI 2)) g := by
  refine pm_enter (cc := cX4_retirePrinters) (maxL := 3) (ret := (some .int)) (by decide) (Nat.le_of_ble_eq_true rfl) ?_
  intro p e s m below meth c A Qc ls hx hb hml hown hts hlk hA hK hP hD hS hr hq hl
  have hl : lv_has ls 3 [(0, .ref (h 0)), (1, .int (nI k)), (2, .int (x))] := hl
  have hN := hI.N0
  have hK0 := hI.K0
  have hN8 := hI.N8
  have hK4 := hI.K4
  have hN1 := hI.N1
  have hK1 := hI.K1
  have hwt := hI.waiting
  have hln := hI.len
  refine lv_aload_n hx hb dX4_retirePrinters_0 rfl (lv_at hl 0 rfl) ?_
  refine lv_iconst (v := nI 0) hx hb dX4_retirePrinters_1 (by decide) ?_
  refine pm_put0 (f := f) (f2 := (va_up f 0 (nI 0))) hx hb hts hown hK hP hD hS (hts _ q2482) rfl dX4_retirePrinters_2 (fun H locs hP hD hS => ?_)
  refine lv_aload_n hx hb dX4_retirePrinters_5 rfl (lv_at hl 0 rfl) ?_
  refine lv_iload_n hx hb dX4_retirePrinters_6 rfl (lv_at hl 1 rfl) ?_
  refine pm_callI (n := 1) [] hx hb hml hown hts hA hK (m_noKind_ok l D h cI (va_up f 0 (nI 0)) g K k (by first | assumption | omega | rfl) (by first | assumption | omega | rfl) (by first | assumption | omega | rfl) (by first | assumption | omega | rfl)) (lw_V q2574 q2576 qs58 q122 q2577) ⟨rfl, rfl⟩ (by decide +kernel) ⟨Nat.le_of_ble_eq_true rfl, Nat.le_of_ble_eq_true rfl⟩ hP hD hS rfl hl.1 rfl (Nat.le_of_ble_eq_true rfl) ⟨Nat.zero_le _, Nat.zero_le _⟩ dX4_retirePrinters_7 (fun H locs hP hD hS => ?_)
  refine pb_if_ne (tgt := 28) hx hb dX4_retirePrinters_10 (by decide) (fun c1 => ?_) (fun c1 => ?_)
  · exfalso; cases c1
  · refine lv_aload_n hx hb dX4_retirePrinters_13 rfl (lv_at hl 0 rfl) ?_
    refine lv_iload_n hx hb dX4_retirePrinters_14 rfl (lv_at hl 2 rfl) ?_
    refine lv_iconst (v := nI 1) hx hb dX4_retirePrinters_15 (by decide) ?_
    refine lv_bipush (v := nI 20) hx hb dX4_retirePrinters_16 (by decide) ?_
    refine pp_callS (n := 3) (rest := [.ref (h 0)]) hx hb hml hown hts (m_in_no l x (nI 1) (nI 20) (by first | assumption | omega | rfl)) (lw_S q2363 q2364 q122 q2365) ⟨rfl, rfl⟩ (by decide +kernel) ⟨Nat.le_of_ble_eq_true rfl, Nat.le_of_ble_eq_true rfl⟩ rfl hl.1 rfl (Nat.le_of_ble_eq_true rfl) dX4_retirePrinters_18 ⟨Nat.zero_le _, Nat.zero_le _⟩ ?_
    refine lv_iconst (v := nI 2) hx hb dX4_retirePrinters_21 (by decide) ?_
    refine pm_callI (n := 2) [] hx hb hml hown hts hA hK (m_fails_no l D h cI (va_up f 0 (nI 0)) g 2 (by first | assumption | omega | rfl) (by first | assumption | omega | rfl) (by first | assumption | omega | rfl)) (lw_V q2366 q2368 qs32 q122 q2369) ⟨rfl, rfl⟩ (by decide +kernel) ⟨Nat.le_of_ble_eq_true rfl, Nat.le_of_ble_eq_true rfl⟩ hP hD hS rfl hl.1 rfl (Nat.le_of_ble_eq_true rfl) ⟨Nat.zero_le _, Nat.zero_le _⟩ dX4_retirePrinters_22 (fun H locs hP hD hS => ?_)
    have hP : va_P D pc_Cl (pm_W h cI (va_up f 0 (nI 2)) g) H := hP
    have hD : va_D A (pm_W h cI (va_up f 0 (nI 2)) g) := hD
    refine pb_if_eq (tgt := 32) hx hb dX4_retirePrinters_25 (by decide) (fun c2 => ?_) (fun c2 => ?_)
    · exfalso; cases c2
    · refine lv_iconst (v := nI 0) hx hb dX4_retirePrinters_28 (by decide) ?_
      refine lv_goto (tgt := 42) hx hb dX4_retirePrinters_29 (by decide) ?_
      exact pm_retI hx hb hlk hr hq hP hD hS dX4_retirePrinters_42 rfl rfl

set_option maxHeartbeats 4000000 in
theorem m_retirePrinters_no (l : Launch) (D : va_G) (h : Nat → Nat) (cI : ClassId) (f : Nat → Int32) (g : Nat → Nat → Int32) (B : Nat) (K : Nat) (N : Nat) (wl : List Nat) (x8 : Int32) (y8 : Int32) (hI : pc_inv B (g 1) K N wl) (hx8 : pc_inr x8 (nI 0) (nI (K - 1)) = false) : pm_C l yX4_retirePrinters (ws_ yX4_retirePrinters cX4_retirePrinters 3 (some .int)) ({ frames := 2, cells := 0, slots := 0, locals := 43 } : Room) D h cI [.ref (h 0), .int (x8), .int (y8)] f g (some (.int (nI 0))) (va_up f 0 (nI 1)) g := by
  refine pm_enter (cc := cX4_retirePrinters) (maxL := 3) (ret := (some .int)) (by decide) (Nat.le_of_ble_eq_true rfl) ?_
  intro p e s m below meth c A Qc ls hx hb hml hown hts hlk hA hK hP hD hS hr hq hl
  have hl : lv_has ls 3 [(0, .ref (h 0)), (1, .int (x8)), (2, .int (y8))] := hl
  have hN := hI.N0
  have hK0 := hI.K0
  have hN8 := hI.N8
  have hK4 := hI.K4
  have hN1 := hI.N1
  have hK1 := hI.K1
  have hwt := hI.waiting
  have hln := hI.len
  refine lv_aload_n hx hb dX4_retirePrinters_0 rfl (lv_at hl 0 rfl) ?_
  refine lv_iconst (v := nI 0) hx hb dX4_retirePrinters_1 (by decide) ?_
  refine pm_put0 (f := f) (f2 := (va_up f 0 (nI 0))) hx hb hts hown hK hP hD hS (hts _ q2482) rfl dX4_retirePrinters_2 (fun H locs hP hD hS => ?_)
  refine lv_aload_n hx hb dX4_retirePrinters_5 rfl (lv_at hl 0 rfl) ?_
  refine lv_iload_n hx hb dX4_retirePrinters_6 rfl (lv_at hl 1 rfl) ?_
  refine pm_callI (n := 1) [] hx hb hml hown hts hA hK (m_noKind_no l D h cI (va_up f 0 (nI 0)) g K x8 (by first | assumption | omega | rfl) (by first | assumption | omega | rfl) (by first | assumption | omega | rfl) (by first | assumption | omega | rfl) (by first | assumption | omega | rfl)) (lw_V q2574 q2576 qs58 q122 q2577) ⟨rfl, rfl⟩ (by decide +kernel) ⟨Nat.le_of_ble_eq_true rfl, Nat.le_of_ble_eq_true rfl⟩ hP hD hS rfl hl.1 rfl (Nat.le_of_ble_eq_true rfl) ⟨Nat.zero_le _, Nat.zero_le _⟩ dX4_retirePrinters_7 (fun H locs hP hD hS => ?_)
  have hP : va_P D pc_Cl (pm_W h cI (va_up f 0 (nI 1)) g) H := hP
  have hD : va_D A (pm_W h cI (va_up f 0 (nI 1)) g) := hD
  refine pb_if_ne (tgt := 28) hx hb dX4_retirePrinters_10 (by decide) (fun c1 => ?_) (fun c1 => ?_)
  · refine lv_iconst (v := nI 0) hx hb dX4_retirePrinters_28 (by decide) ?_
    refine lv_goto (tgt := 42) hx hb dX4_retirePrinters_29 (by decide) ?_
    exact pm_retI hx hb hlk hr hq hP hD hS dX4_retirePrinters_42 rfl rfl
  · exfalso; cases c1

set_option maxHeartbeats 4000000 in
theorem m_undo_ok (l : Launch) (D : va_G) (h : Nat → Nat) (cI : ClassId) (f : Nat → Int32) (g : Nat → Nat → Int32) (u : Nat) (hu : f 6 = nI u) (hu8 : u ≤ 8) (hu0 : 0 < u) : pm_C l yX4_undo (ws_ yX4_undo cX4_undo 1 (some .int)) ({ frames := 1, cells := 0, slots := 0, locals := 25 } : Room) D h cI [.ref (h 0)] f g (some (.int (nI (u - 1)))) (va_up (va_up f 0 (nI 0)) 6 (nI (u - 1))) (va_up g 1 (pc_cp g 5 1 (101 * (u - 1)) 0 101)) := by
  refine pm_enter (cc := cX4_undo) (maxL := 1) (ret := (some .int)) (by decide) (Nat.le_of_ble_eq_true rfl) ?_
  intro p e s m below meth c A Qc ls hx hb hml hown hts hlk hA hK hP hD hS hr hq hl
  have hl : lv_has ls 1 [(0, .ref (h 0))] := hl
  refine lv_aload_n hx hb dX4_undo_0 rfl (lv_at hl 0 rfl) ?_
  refine lv_iconst (v := nI 0) hx hb dX4_undo_1 (by decide) ?_
  refine pm_put0 (f := f) (f2 := (va_up f 0 (nI 0))) hx hb hts hown hK hP hD hS (hts _ q2482) rfl dX4_undo_2 (fun H locs hP hD hS => ?_)
  refine lv_aload_n hx hb dX4_undo_5 rfl (lv_at hl 0 rfl) ?_
  refine lv_aload_n hx hb dX4_undo_6 rfl (lv_at hl 0 rfl) ?_
  refine va_get (D := D) (ci := 0) (v := .int (f 6)) (C := RX4) (T := TX4) (N := 22) hx hb hts in_X4 hown hK hP 0 rfl rfl 6 (by decide) (hts _ q2488) (fun _ h9 => h9) rfl dX4_undo_7 ?_
  refine pn_top hu ?_
  refine pn_if_le (tgt := 17) hx hb (by omega) dX4_undo_10 (by decide) (fun c1 => ?_) (fun c1 => ?_)
  · exfalso; omega
  · refine lv_iconst (v := nI 1) hx hb dX4_undo_13 (by decide) ?_
    refine lv_goto (tgt := 18) hx hb dX4_undo_14 (by decide) ?_
    refine lv_iconst (v := nI 1) hx hb dX4_undo_18 (by decide) ?_
    refine pm_callI (n := 2) [] hx hb hml hown hts hA hK (m_fails_ok l D h cI (va_up f 0 (nI 0)) g (nI 1) (by first | assumption | omega | rfl)) (lw_V q2366 q2368 qs32 q122 q2369) ⟨rfl, rfl⟩ (by decide +kernel) ⟨Nat.le_of_ble_eq_true rfl, Nat.le_of_ble_eq_true rfl⟩ hP hD hS rfl hl.1 rfl (Nat.le_of_ble_eq_true rfl) ⟨Nat.zero_le _, Nat.zero_le _⟩ dX4_undo_19 (fun H locs hP hD hS => ?_)
    refine pb_if_eq (tgt := 27) hx hb dX4_undo_22 (by decide) (fun c2 => ?_) (fun c2 => ?_)
    · refine lv_aload_n hx hb dX4_undo_27 rfl (lv_at hl 0 rfl) ?_
      refine lv_dup hx hb dX4_undo_28 rfl ?_
      refine va_get (D := D) (ci := 0) (v := .int (f 6)) (C := RX4) (T := TX4) (N := 22) hx hb hts in_X4 hown hK hP 0 rfl rfl 6 (by decide) (hts _ q2488) (fun _ h9 => h9) rfl dX4_undo_29 ?_
      refine pn_top hu ?_
      refine lv_iconst (v := nI 1) hx hb dX4_undo_32 (by decide) ?_
      refine pn_isub hx hb (by omega) dX4_undo_33 ?_
      refine pm_put6 (f := (va_up f 0 (nI 0))) (f2 := (va_up (va_up f 0 (nI 0)) 6 (nI (u - 1)))) hx hb hts hown hK hP hD hS (hts _ q2488) rfl dX4_undo_34 (fun H locs hP hD hS => ?_)
      refine lv_aload_n hx hb dX4_undo_37 rfl (lv_at hl 0 rfl) ?_
      refine va_get (D := D) (ci := 0) (v := .ref (h 5)) (C := RX4) (T := TX4) (N := 22) hx hb hts in_X4 hown hK hP 0 rfl rfl 5 (by decide) (hts _ q2487) (fun _ h9 => h9) rfl dX4_undo_38 ?_
      refine lv_bipush (v := nI 101) hx hb dX4_undo_41 (by decide) ?_
      refine lv_aload_n hx hb dX4_undo_43 rfl (lv_at hl 0 rfl) ?_
      refine va_get (D := D) (ci := 0) (v := .int (nI (u - 1))) (C := RX4) (T := TX4) (N := 22) hx hb hts in_X4 hown hK hP 0 rfl rfl 6 (by decide) (hts _ q2488) (fun _ h9 => h9) rfl dX4_undo_44 ?_
      refine pn_imul hx hb dX4_undo_47 ?_
      refine lv_aload_n hx hb dX4_undo_48 rfl (lv_at hl 0 rfl) ?_
      refine va_get (D := D) (ci := 0) (v := .ref (h 1)) (C := RX4) (T := TX4) (N := 22) hx hb hts in_X4 hown hK hP 0 rfl rfl 1 (by decide) (hts _ q2483) (fun _ h9 => h9) rfl dX4_undo_49 ?_
      refine lv_iconst (v := nI 0) hx hb dX4_undo_52 (by decide) ?_
      refine lv_bipush (v := nI 101) hx hb dX4_undo_53 (by decide) ?_
      refine pm_callS (n := 5) [] hx hb hml hown hts hA hK (m_copies l D h cI (va_up (va_up f 0 (nI 0)) 6 (nI (u - 1))) g 5 1 5 1 808 101 (101 * (u - 1)) 0 101 (fun _ => rfl) (fun _ => rfl) (fun _ _ => rfl) (by first | assumption | omega | rfl) (by first | assumption | omega | rfl) (by first | assumption | omega | rfl) (by first | assumption | omega | rfl)) (lw_S q2370 q2371 q122 q2372) ⟨rfl, rfl⟩ (by decide +kernel) ⟨Nat.le_of_ble_eq_true rfl, Nat.le_of_ble_eq_true rfl⟩ hP hD hS rfl hl.1 rfl (Nat.le_of_ble_eq_true rfl) ⟨Nat.zero_le _, Nat.zero_le _⟩ dX4_undo_55 (fun H locs hP hD hS => ?_)
      have hP : va_P D pc_Cl (pm_W h cI (va_up (va_up f 0 (nI 0)) 6 (nI (u - 1))) (va_up g 1 (pc_cp g 5 1 (101 * (u - 1)) 0 101))) H := hP
      have hD : va_D A (pm_W h cI (va_up (va_up f 0 (nI 0)) 6 (nI (u - 1))) (va_up g 1 (pc_cp g 5 1 (101 * (u - 1)) 0 101))) := hD
      refine lv_aload_n hx hb dX4_undo_58 rfl (lv_at hl 0 rfl) ?_
      refine va_get (D := D) (ci := 0) (v := .int (nI (u - 1))) (C := RX4) (T := TX4) (N := 22) hx hb hts in_X4 hown hK hP 0 rfl rfl 6 (by decide) (hts _ q2488) (fun _ h9 => h9) rfl dX4_undo_59 ?_
      exact pm_retI hx hb hlk hr hq hP hD hS dX4_undo_62 rfl rfl
    · exfalso; cases c2

set_option maxHeartbeats 4000000 in
theorem m_undo_no (l : Launch) (D : va_G) (h : Nat → Nat) (cI : ClassId) (f : Nat → Int32) (g : Nat → Nat → Int32) (hu : f 6 = nI 0) : pm_C l yX4_undo (ws_ yX4_undo cX4_undo 1 (some .int)) ({ frames := 1, cells := 0, slots := 0, locals := 22 } : Room) D h cI [.ref (h 0)] f g (some (.int (nI 0))) (va_up f 0 (nI 1)) g := by
  refine pm_enter (cc := cX4_undo) (maxL := 1) (ret := (some .int)) (by decide) (Nat.le_of_ble_eq_true rfl) ?_
  intro p e s m below meth c A Qc ls hx hb hml hown hts hlk hA hK hP hD hS hr hq hl
  have hl : lv_has ls 1 [(0, .ref (h 0))] := hl
  refine lv_aload_n hx hb dX4_undo_0 rfl (lv_at hl 0 rfl) ?_
  refine lv_iconst (v := nI 0) hx hb dX4_undo_1 (by decide) ?_
  refine pm_put0 (f := f) (f2 := (va_up f 0 (nI 0))) hx hb hts hown hK hP hD hS (hts _ q2482) rfl dX4_undo_2 (fun H locs hP hD hS => ?_)
  refine lv_aload_n hx hb dX4_undo_5 rfl (lv_at hl 0 rfl) ?_
  refine lv_aload_n hx hb dX4_undo_6 rfl (lv_at hl 0 rfl) ?_
  refine va_get (D := D) (ci := 0) (v := .int (f 6)) (C := RX4) (T := TX4) (N := 22) hx hb hts in_X4 hown hK hP 0 rfl rfl 6 (by decide) (hts _ q2488) (fun _ h9 => h9) rfl dX4_undo_7 ?_
  refine pn_top hu ?_
  refine pn_if_le (tgt := 17) hx hb (by omega) dX4_undo_10 (by decide) (fun c1 => ?_) (fun c1 => ?_)
  · refine lv_iconst (v := nI 0) hx hb dX4_undo_17 (by decide) ?_
    refine lv_iconst (v := nI 1) hx hb dX4_undo_18 (by decide) ?_
    refine pm_callI (n := 2) [] hx hb hml hown hts hA hK (m_fails_no l D h cI (va_up f 0 (nI 0)) g 1 (by first | assumption | omega | rfl) (by first | assumption | omega | rfl) (by first | assumption | omega | rfl)) (lw_V q2366 q2368 qs32 q122 q2369) ⟨rfl, rfl⟩ (by decide +kernel) ⟨Nat.le_of_ble_eq_true rfl, Nat.le_of_ble_eq_true rfl⟩ hP hD hS rfl hl.1 rfl (Nat.le_of_ble_eq_true rfl) ⟨Nat.zero_le _, Nat.zero_le _⟩ dX4_undo_19 (fun H locs hP hD hS => ?_)
    have hP : va_P D pc_Cl (pm_W h cI (va_up f 0 (nI 1)) g) H := hP
    have hD : va_D A (pm_W h cI (va_up f 0 (nI 1)) g) := hD
    refine pb_if_eq (tgt := 27) hx hb dX4_undo_22 (by decide) (fun c2 => ?_) (fun c2 => ?_)
    · exfalso; cases c2
    · refine lv_iconst (v := nI 0) hx hb dX4_undo_25 (by decide) ?_
      exact pm_retI hx hb hlk hr hq hP hD hS dX4_undo_26 rfl rfl
  · exfalso; omega

set_option maxHeartbeats 4000000 in
theorem m_saveSnapshot (l : Launch) (D : va_G) (h : Nat → Nat) (cI : ClassId) (f : Nat → Int32) (g : Nat → Nat → Int32) : pm_C l yX4_saveSnapshot (ws_ yX4_saveSnapshot cX4_saveSnapshot 1 none) ({ frames := 1, cells := 0, slots := 0, locals := 25 } : Room) D h cI [.ref (h 0)] f g none (va_up (va_up f 0 (nI 0)) 7 (pc_b true)) (va_up g 3 (pc_cp g 1 3 0 0 101)) := by
  refine pm_enter (cc := cX4_saveSnapshot) (maxL := 1) (ret := none) (by decide) (Nat.le_of_ble_eq_true rfl) ?_
  intro p e s m below meth c A Qc ls hx hb hml hown hts hlk hA hK hP hD hS hr hq hl
  have hl : lv_has ls 1 [(0, .ref (h 0))] := hl
  refine lv_aload_n hx hb dX4_saveSnapshot_0 rfl (lv_at hl 0 rfl) ?_
  refine lv_iconst (v := nI 0) hx hb dX4_saveSnapshot_1 (by decide) ?_
  refine pm_put0 (f := f) (f2 := (va_up f 0 (nI 0))) hx hb hts hown hK hP hD hS (hts _ q2482) rfl dX4_saveSnapshot_2 (fun H locs hP hD hS => ?_)
  refine lv_aload_n hx hb dX4_saveSnapshot_5 rfl (lv_at hl 0 rfl) ?_
  refine va_get (D := D) (ci := 0) (v := .ref (h 1)) (C := RX4) (T := TX4) (N := 22) hx hb hts in_X4 hown hK hP 0 rfl rfl 1 (by decide) (hts _ q2483) (fun _ h9 => h9) rfl dX4_saveSnapshot_6 ?_
  refine lv_iconst (v := nI 0) hx hb dX4_saveSnapshot_9 (by decide) ?_
  refine lv_aload_n hx hb dX4_saveSnapshot_10 rfl (lv_at hl 0 rfl) ?_
  refine va_get (D := D) (ci := 0) (v := .ref (h 3)) (C := RX4) (T := TX4) (N := 22) hx hb hts in_X4 hown hK hP 0 rfl rfl 3 (by decide) (hts _ q2485) (fun _ h9 => h9) rfl dX4_saveSnapshot_11 ?_
  refine lv_iconst (v := nI 0) hx hb dX4_saveSnapshot_14 (by decide) ?_
  refine lv_bipush (v := nI 101) hx hb dX4_saveSnapshot_15 (by decide) ?_
  refine pm_callS (n := 5) [] hx hb hml hown hts hA hK (m_copies l D h cI (va_up f 0 (nI 0)) g 1 3 1 3 101 101 0 0 101 (fun _ => rfl) (fun _ => rfl) (fun _ _ => rfl) (by first | assumption | omega | rfl) (by first | assumption | omega | rfl) (by first | assumption | omega | rfl) (by first | assumption | omega | rfl)) (lw_S q2370 q2371 q122 q2372) ⟨rfl, rfl⟩ (by decide +kernel) ⟨Nat.le_of_ble_eq_true rfl, Nat.le_of_ble_eq_true rfl⟩ hP hD hS rfl hl.1 rfl (Nat.le_of_ble_eq_true rfl) ⟨Nat.zero_le _, Nat.zero_le _⟩ dX4_saveSnapshot_17 (fun H locs hP hD hS => ?_)
  have hP : va_P D pc_Cl (pm_W h cI (va_up f 0 (nI 0)) (va_up g 3 (pc_cp g 1 3 0 0 101))) H := hP
  have hD : va_D A (pm_W h cI (va_up f 0 (nI 0)) (va_up g 3 (pc_cp g 1 3 0 0 101))) := hD
  refine lv_aload_n hx hb dX4_saveSnapshot_20 rfl (lv_at hl 0 rfl) ?_
  refine lv_iconst (v := nI 1) hx hb dX4_saveSnapshot_21 (by decide) ?_
  refine pm_put7 (f := (va_up f 0 (nI 0))) (f2 := (va_up (va_up f 0 (nI 0)) 7 (nI 1))) hx hb hts hown hK hP hD hS (hts _ q2489) (by decide) (by decide) rfl dX4_saveSnapshot_22 (fun H locs hP hD hS => ?_)
  exact pm_retV hx hb hlk hr hq hP hD hS dX4_saveSnapshot_25 (by rfl)

set_option maxHeartbeats 4000000 in
theorem m_restoreSnapshot_ok (l : Launch) (D : va_G) (h : Nat → Nat) (cI : ClassId) (f : Nat → Int32) (g : Nat → Nat → Int32) (B : Nat) (K : Nat) (N : Nat) (wl : List Nat) (hs7 : f 7 = pc_b true) (hI : pc_inv B (pc_cp g 3 1 0 0 101) K N wl) : pm_C l yX4_restoreSnapshot (ws_ yX4_restoreSnapshot cX4_restoreSnapshot 1 (some .int)) ({ frames := 3, cells := 0, slots := 0, locals := 65 } : Room) D h cI [.ref (h 0)] f g (some (.int (nI wl.length))) (va_up (va_up f 0 (nI 0)) 6 (nI 0)) (va_up g 1 (pc_cp g 3 1 0 0 101)) := by
  refine pm_enter (cc := cX4_restoreSnapshot) (maxL := 1) (ret := (some .int)) (by decide) (Nat.le_of_ble_eq_true rfl) ?_
  intro p e s m below meth c A Qc ls hx hb hml hown hts hlk hA hK hP hD hS hr hq hl
  have hl : lv_has ls 1 [(0, .ref (h 0))] := hl
  have hwt := hI.waiting
  refine lv_aload_n hx hb dX4_restoreSnapshot_0 rfl (lv_at hl 0 rfl) ?_
  refine lv_iconst (v := nI 0) hx hb dX4_restoreSnapshot_1 (by decide) ?_
  refine pm_put0 (f := f) (f2 := (va_up f 0 (nI 0))) hx hb hts hown hK hP hD hS (hts _ q2482) rfl dX4_restoreSnapshot_2 (fun H locs hP hD hS => ?_)
  refine lv_aload_n hx hb dX4_restoreSnapshot_5 rfl (lv_at hl 0 rfl) ?_
  refine lv_aload_n hx hb dX4_restoreSnapshot_6 rfl (lv_at hl 0 rfl) ?_
  refine va_get (D := D) (ci := 0) (v := .int (f 7)) (C := RX4) (T := TX4) (N := 22) hx hb hts in_X4 hown hK hP 0 rfl rfl 7 (by decide) (hts _ q2489) (fun _ h9 => h9) rfl dX4_restoreSnapshot_7 ?_
  refine pn_top hs7 ?_
  refine lv_iconst (v := nI 1) hx hb dX4_restoreSnapshot_10 (by decide) ?_
  refine pm_callI (n := 2) [] hx hb hml hown hts hA hK (m_fails_ok l D h cI (va_up f 0 (nI 0)) g (nI 1) (by first | assumption | omega | rfl)) (lw_V q2366 q2368 qs32 q122 q2369) ⟨rfl, rfl⟩ (by decide +kernel) ⟨Nat.le_of_ble_eq_true rfl, Nat.le_of_ble_eq_true rfl⟩ hP hD hS rfl hl.1 rfl (Nat.le_of_ble_eq_true rfl) ⟨Nat.zero_le _, Nat.zero_le _⟩ dX4_restoreSnapshot_11 (fun H locs hP hD hS => ?_)
  refine pb_if_eq (tgt := 19) hx hb dX4_restoreSnapshot_14 (by decide) (fun c1 => ?_) (fun c1 => ?_)
  · refine lv_aload_n hx hb dX4_restoreSnapshot_19 rfl (lv_at hl 0 rfl) ?_
    refine va_get (D := D) (ci := 0) (v := .ref (h 3)) (C := RX4) (T := TX4) (N := 22) hx hb hts in_X4 hown hK hP 0 rfl rfl 3 (by decide) (hts _ q2485) (fun _ h9 => h9) rfl dX4_restoreSnapshot_20 ?_
    refine lv_iconst (v := nI 0) hx hb dX4_restoreSnapshot_23 (by decide) ?_
    refine lv_aload_n hx hb dX4_restoreSnapshot_24 rfl (lv_at hl 0 rfl) ?_
    refine va_get (D := D) (ci := 0) (v := .ref (h 1)) (C := RX4) (T := TX4) (N := 22) hx hb hts in_X4 hown hK hP 0 rfl rfl 1 (by decide) (hts _ q2483) (fun _ h9 => h9) rfl dX4_restoreSnapshot_25 ?_
    refine lv_iconst (v := nI 0) hx hb dX4_restoreSnapshot_28 (by decide) ?_
    refine lv_bipush (v := nI 101) hx hb dX4_restoreSnapshot_29 (by decide) ?_
    refine pm_callS (n := 5) [] hx hb hml hown hts hA hK (m_copies l D h cI (va_up f 0 (nI 0)) g 3 1 3 1 101 101 0 0 101 (fun _ => rfl) (fun _ => rfl) (fun _ _ => rfl) (by first | assumption | omega | rfl) (by first | assumption | omega | rfl) (by first | assumption | omega | rfl) (by first | assumption | omega | rfl)) (lw_S q2370 q2371 q122 q2372) ⟨rfl, rfl⟩ (by decide +kernel) ⟨Nat.le_of_ble_eq_true rfl, Nat.le_of_ble_eq_true rfl⟩ hP hD hS rfl hl.1 rfl (Nat.le_of_ble_eq_true rfl) ⟨Nat.zero_le _, Nat.zero_le _⟩ dX4_restoreSnapshot_31 (fun H locs hP hD hS => ?_)
    have hP : va_P D pc_Cl (pm_W h cI (va_up f 0 (nI 0)) (va_up g 1 (pc_cp g 3 1 0 0 101))) H := hP
    have hD : va_D A (pm_W h cI (va_up f 0 (nI 0)) (va_up g 1 (pc_cp g 3 1 0 0 101))) := hD
    refine lv_aload_n hx hb dX4_restoreSnapshot_34 rfl (lv_at hl 0 rfl) ?_
    refine lv_iconst (v := nI 0) hx hb dX4_restoreSnapshot_35 (by decide) ?_
    refine pm_put6 (f := (va_up f 0 (nI 0))) (f2 := (va_up (va_up f 0 (nI 0)) 6 (nI 0))) hx hb hts hown hK hP hD hS (hts _ q2488) rfl dX4_restoreSnapshot_36 (fun H locs hP hD hS => ?_)
    refine lv_aload_n hx hb dX4_restoreSnapshot_39 rfl (lv_at hl 0 rfl) ?_
    refine pm_callI (n := 0) [] hx hb hml hown hts hA hK (m_waiting l D h cI (va_up (va_up f 0 (nI 0)) 6 (nI 0)) (va_up g 1 (pc_cp g 3 1 0 0 101)) N hI.N0 hI.N8) (lw_V q2649 q2651 qs63 q122 q2652) ⟨rfl, rfl⟩ (by decide +kernel) ⟨Nat.le_of_ble_eq_true rfl, Nat.le_of_ble_eq_true rfl⟩ hP hD hS rfl hl.1 rfl (Nat.le_of_ble_eq_true rfl) ⟨Nat.zero_le _, Nat.zero_le _⟩ dX4_restoreSnapshot_40 (fun H locs hP hD hS => ?_)
    refine pn_top (y := nI (pc_waiting (pc_cp g 3 1 0 0 101) N)) rfl ?_
    exact pm_retI hx hb hlk hr hq hP hD hS dX4_restoreSnapshot_43 (by rw [hwt]) rfl
  · exfalso; cases c1

set_option maxHeartbeats 4000000 in
theorem m_restoreSnapshot_no (l : Launch) (D : va_G) (h : Nat → Nat) (cI : ClassId) (f : Nat → Int32) (g : Nat → Nat → Int32) (hs7 : f 7 = pc_b false) : pm_C l yX4_restoreSnapshot (ws_ yX4_restoreSnapshot cX4_restoreSnapshot 1 (some .int)) ({ frames := 1, cells := 0, slots := 0, locals := 22 } : Room) D h cI [.ref (h 0)] f g (some (.int (nI 0))) (va_up f 0 (nI 1)) g := by
  refine pm_enter (cc := cX4_restoreSnapshot) (maxL := 1) (ret := (some .int)) (by decide) (Nat.le_of_ble_eq_true rfl) ?_
  intro p e s m below meth c A Qc ls hx hb hml hown hts hlk hA hK hP hD hS hr hq hl
  have hl : lv_has ls 1 [(0, .ref (h 0))] := hl
  refine lv_aload_n hx hb dX4_restoreSnapshot_0 rfl (lv_at hl 0 rfl) ?_
  refine lv_iconst (v := nI 0) hx hb dX4_restoreSnapshot_1 (by decide) ?_
  refine pm_put0 (f := f) (f2 := (va_up f 0 (nI 0))) hx hb hts hown hK hP hD hS (hts _ q2482) rfl dX4_restoreSnapshot_2 (fun H locs hP hD hS => ?_)
  refine lv_aload_n hx hb dX4_restoreSnapshot_5 rfl (lv_at hl 0 rfl) ?_
  refine lv_aload_n hx hb dX4_restoreSnapshot_6 rfl (lv_at hl 0 rfl) ?_
  refine va_get (D := D) (ci := 0) (v := .int (f 7)) (C := RX4) (T := TX4) (N := 22) hx hb hts in_X4 hown hK hP 0 rfl rfl 7 (by decide) (hts _ q2489) (fun _ h9 => h9) rfl dX4_restoreSnapshot_7 ?_
  refine pn_top hs7 ?_
  refine lv_iconst (v := nI 1) hx hb dX4_restoreSnapshot_10 (by decide) ?_
  refine pm_callI (n := 2) [] hx hb hml hown hts hA hK (m_fails_no l D h cI (va_up f 0 (nI 0)) g 1 (by first | assumption | omega | rfl) (by first | assumption | omega | rfl) (by first | assumption | omega | rfl)) (lw_V q2366 q2368 qs32 q122 q2369) ⟨rfl, rfl⟩ (by decide +kernel) ⟨Nat.le_of_ble_eq_true rfl, Nat.le_of_ble_eq_true rfl⟩ hP hD hS rfl hl.1 rfl (Nat.le_of_ble_eq_true rfl) ⟨Nat.zero_le _, Nat.zero_le _⟩ dX4_restoreSnapshot_11 (fun H locs hP hD hS => ?_)
  have hP : va_P D pc_Cl (pm_W h cI (va_up f 0 (nI 1)) g) H := hP
  have hD : va_D A (pm_W h cI (va_up f 0 (nI 1)) g) := hD
  refine pb_if_eq (tgt := 19) hx hb dX4_restoreSnapshot_14 (by decide) (fun c1 => ?_) (fun c1 => ?_)
  · exfalso; cases c1
  · refine lv_iconst (v := nI 0) hx hb dX4_restoreSnapshot_17 (by decide) ?_
    exact pm_retI hx hb hlk hr hq hP hD hS dX4_restoreSnapshot_18 rfl rfl
