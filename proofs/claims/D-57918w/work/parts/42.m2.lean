/-! THE REFERENCE 2: what changes the row -/
set_option maxRecDepth 100000
set_option maxHeartbeats 4000000 in
theorem m_grants (l : Launch) (D : va_G) (h : Nat → Nat) (cI : ClassId) (f : Nat → Int32) (g : Nat → Nat → Int32) (o : Nat) (k : Nat) (x : Int32) (ho : o < 8) (hk : k < 4) : pm_C l yX4_grants (ws_ yX4_grants cX4_grants 4 none) ({ frames := 2, cells := 0, slots := 0, locals := 46 } : Room) D h cI [.ref (h 0), .int (nI o), .int (nI k), .int (x)] f g none f (va_up g 1 (pc_grants (g 1) o k x)) := by
  refine pm_enter (cc := cX4_grants) (maxL := 4) (ret := none) (by decide) (Nat.le_of_ble_eq_true rfl) ?_
  intro p e s m below meth c A Qc ls hx hb hml hown hts hlk hA hK hP hD hS hr hq hl
  have hl : lv_has ls 4 [(0, .ref (h 0)), (1, .int (nI o)), (2, .int (nI k)), (3, .int (x))] := hl
  refine lv_aload_n hx hb dX4_grants_0 rfl (lv_at hl 0 rfl) ?_
  refine lv_iload_n hx hb dX4_grants_1 rfl (lv_at hl 1 rfl) ?_
  refine lv_iload_n hx hb dX4_grants_2 rfl (lv_at hl 2 rfl) ?_
  refine lv_iload_n hx hb dX4_grants_3 rfl (lv_at hl 3 rfl) ?_
  refine pm_callV (n := 3) [] hx hb hml hown hts hA hK (m_gives l D h cI f g o k x (by first | assumption | omega | rfl) (by first | assumption | omega | rfl)) (lw_V q2720 q2722 qs70 q122 q2723) ⟨rfl, rfl⟩ (by decide +kernel) ⟨Nat.le_of_ble_eq_true rfl, Nat.le_of_ble_eq_true rfl⟩ hP hD hS rfl hl.1 rfl (Nat.le_of_ble_eq_true rfl) ⟨Nat.zero_le _, Nat.zero_le _⟩ dX4_grants_4 (fun H locs hP hD hS => ?_)
  have hP : va_P D pc_Cl (pm_W h cI f (va_up g 1 (pc_gives (g 1) o k x))) H := hP
  have hD : va_D A (pm_W h cI f (va_up g 1 (pc_gives (g 1) o k x))) := hD
  refine lv_aload_n hx hb dX4_grants_7 rfl (lv_at hl 0 rfl) ?_
  refine va_get (D := D) (ci := 0) (v := .ref (h 1)) (C := RX4) (T := TX4) (N := 22) hx hb hts in_X4 hown hK hP 0 rfl rfl 1 (by decide) (hts _ q2483) (fun _ h9 => h9) rfl dX4_grants_8 ?_
  refine lv_iconst (v := nI 4) hx hb dX4_grants_11 (by decide) ?_
  refine lv_dup2_11 hx hb dX4_grants_12 rfl rfl ?_
  refine pn_iald (e9 := 4) (f := (pc_gives (g 1) o k x)) hx hb hK hP 1 0 rfl rfl (by omega) (by decide) dX4_grants_13 ?_
  refine lv_iconst (v := nI 1) hx hb dX4_grants_14 (by decide) ?_
  refine lv_iadd hx hb dX4_grants_15 ?_
  refine pm_ast1 (g := (va_up g 1 (pc_gives (g 1) o k x))) (g2 := (va_up g 1 (upd (pc_gives (g 1) o k x) 4 (((pc_gives (g 1) o k x) 4) + (nI 1))))) (X := (pc_gives (g 1) o k x)) (e9 := 4) hx hb hK hP hD hS (va_up_self _ _ _) (by omega) (bx_uu _ _ _ _) dX4_grants_16 (fun H locs hP hD hS => ?_)
  refine lv_aload_n hx hb dX4_grants_17 rfl (lv_at hl 0 rfl) ?_
  refine va_get (D := D) (ci := 0) (v := .ref (h 1)) (C := RX4) (T := TX4) (N := 22) hx hb hts in_X4 hown hK hP 0 rfl rfl 1 (by decide) (hts _ q2483) (fun _ h9 => h9) rfl dX4_grants_18 ?_
  refine lv_bipush (v := nI 7) hx hb dX4_grants_21 (by decide) ?_
  refine lv_dup2_11 hx hb dX4_grants_23 rfl rfl ?_
  refine pn_iald (e9 := 7) (f := (upd (pc_gives (g 1) o k x) 4 (((pc_gives (g 1) o k x) 4) + (nI 1)))) hx hb hK hP 1 0 rfl rfl (by omega) (by decide) dX4_grants_24 ?_
  refine lv_iload_n hx hb dX4_grants_25 rfl (lv_at hl 3 rfl) ?_
  refine lv_iadd hx hb dX4_grants_26 ?_
  refine pm_ast1 (g := (va_up g 1 (upd (pc_gives (g 1) o k x) 4 (((pc_gives (g 1) o k x) 4) + (nI 1))))) (g2 := (va_up g 1 (upd (upd (pc_gives (g 1) o k x) 4 (((pc_gives (g 1) o k x) 4) + (nI 1))) 7 (((upd (pc_gives (g 1) o k x) 4 (((pc_gives (g 1) o k x) 4) + (nI 1))) 7) + x)))) (X := (upd (pc_gives (g 1) o k x) 4 (((pc_gives (g 1) o k x) 4) + (nI 1)))) (e9 := 7) hx hb hK hP hD hS (va_up_self _ _ _) (by omega) (bx_uu _ _ _ _) dX4_grants_27 (fun H locs hP hD hS => ?_)
  exact pm_retV hx hb hlk hr hq hP hD hS dX4_grants_28 (by rfl)

set_option maxHeartbeats 4000000 in
theorem m_forgets (l : Launch) (D : va_G) (h : Nat → Nat) (cI : ClassId) (f : Nat → Int32) (g : Nat → Nat → Int32) (o : Nat) (ho : o < 8) : pm_C l yX4_forgets (ws_ yX4_forgets cX4_forgets 2 none) ({ frames := 1, cells := 0, slots := 0, locals := 23 } : Room) D h cI [.ref (h 0), .int (nI o)] f g none f (va_up g 1 (pc_forgets (g 1) o)) := by
  refine pm_enter (cc := cX4_forgets) (maxL := 2) (ret := none) (by decide) (Nat.le_of_ble_eq_true rfl) ?_
  intro p e s m below meth c A Qc ls hx hb hml hown hts hlk hA hK hP hD hS hr hq hl
  have hl : lv_has ls 2 [(0, .ref (h 0)), (1, .int (nI o))] := hl
  refine lv_aload_n hx hb dX4_forgets_0 rfl (lv_at hl 0 rfl) ?_
  refine lv_iload_n hx hb dX4_forgets_1 rfl (lv_at hl 1 rfl) ?_
  refine lv_bipush (v := nI 8) hx hb dX4_forgets_2 (by decide) ?_
  refine lv_iconst (v := nI 0) hx hb dX4_forgets_4 (by decide) ?_
  refine pm_callV (n := 3) [] hx hb hml hown hts hA hK (m_lays l D h cI f g o 8 (nI 0) (by first | assumption | omega | rfl) (by first | assumption | omega | rfl)) (lw_V q2430 q2432 qs45 q122 q2433) ⟨rfl, rfl⟩ (by decide +kernel) ⟨Nat.le_of_ble_eq_true rfl, Nat.le_of_ble_eq_true rfl⟩ hP hD hS rfl hl.1 rfl (Nat.le_of_ble_eq_true rfl) ⟨Nat.zero_le _, Nat.zero_le _⟩ dX4_forgets_5 (fun H locs hP hD hS => ?_)
  have hP : va_P D pc_Cl (pm_W h cI f (va_up g 1 (pc_lays (g 1) o 8 (nI 0)))) H := hP
  have hD : va_D A (pm_W h cI f (va_up g 1 (pc_lays (g 1) o 8 (nI 0)))) := hD
  refine lv_aload_n hx hb dX4_forgets_8 rfl (lv_at hl 0 rfl) ?_
  refine lv_iload_n hx hb dX4_forgets_9 rfl (lv_at hl 1 rfl) ?_
  refine lv_bipush (v := nI 9) hx hb dX4_forgets_10 (by decide) ?_
  refine lv_iconst (v := nI 0) hx hb dX4_forgets_12 (by decide) ?_
  refine pm_callV (n := 3) [] hx hb hml hown hts hA hK (m_lays l D h cI f (va_up g 1 (pc_lays (g 1) o 8 (nI 0))) o 9 (nI 0) (by first | assumption | omega | rfl) (by first | assumption | omega | rfl)) (lw_V q2430 q2432 qs45 q122 q2433) ⟨rfl, rfl⟩ (by decide +kernel) ⟨Nat.le_of_ble_eq_true rfl, Nat.le_of_ble_eq_true rfl⟩ hP hD hS rfl hl.1 rfl (Nat.le_of_ble_eq_true rfl) ⟨Nat.zero_le _, Nat.zero_le _⟩ dX4_forgets_13 (fun H locs hP hD hS => ?_)
  have hP : va_P D pc_Cl (pm_W h cI f (va_up g 1 (pc_lays (pc_lays (g 1) o 8 (nI 0)) o 9 (nI 0)))) H := hP
  have hD : va_D A (pm_W h cI f (va_up g 1 (pc_lays (pc_lays (g 1) o 8 (nI 0)) o 9 (nI 0)))) := hD
  refine lv_aload_n hx hb dX4_forgets_16 rfl (lv_at hl 0 rfl) ?_
  refine lv_iload_n hx hb dX4_forgets_17 rfl (lv_at hl 1 rfl) ?_
  refine lv_bipush (v := nI 10) hx hb dX4_forgets_18 (by decide) ?_
  refine lv_iconst (v := nI 0) hx hb dX4_forgets_20 (by decide) ?_
  refine pm_callV (n := 3) [] hx hb hml hown hts hA hK (m_lays l D h cI f (va_up g 1 (pc_lays (pc_lays (g 1) o 8 (nI 0)) o 9 (nI 0))) o 10 (nI 0) (by first | assumption | omega | rfl) (by first | assumption | omega | rfl)) (lw_V q2430 q2432 qs45 q122 q2433) ⟨rfl, rfl⟩ (by decide +kernel) ⟨Nat.le_of_ble_eq_true rfl, Nat.le_of_ble_eq_true rfl⟩ hP hD hS rfl hl.1 rfl (Nat.le_of_ble_eq_true rfl) ⟨Nat.zero_le _, Nat.zero_le _⟩ dX4_forgets_21 (fun H locs hP hD hS => ?_)
  have hP : va_P D pc_Cl (pm_W h cI f (va_up g 1 (pc_lays (pc_lays (pc_lays (g 1) o 8 (nI 0)) o 9 (nI 0)) o 10 (nI 0)))) H := hP
  have hD : va_D A (pm_W h cI f (va_up g 1 (pc_lays (pc_lays (pc_lays (g 1) o 8 (nI 0)) o 9 (nI 0)) o 10 (nI 0)))) := hD
  exact pm_retV hx hb hlk hr hq hP hD hS dX4_forgets_24 (by rfl)

set_option maxHeartbeats 4000000 in
theorem m_firstToGrant (l : Launch) (D : va_G) (h : Nat → Nat) (cI : ClassId) (f : Nat → Int32) (g : Nat → Nat → Int32) (B : Nat) (K : Nat) (N : Nat) (wl : List Nat) (hI : pc_inv B (g 1) K N wl) : pm_C l yX4_firstToGrant (ws_ yX4_firstToGrant cX4_firstToGrant 3 (some .int)) ({ frames := 10, cells := 0, slots := 0, locals := 226 } : Room) D h cI [.ref (h 0)] f g (some (.int (pc_ffv (g 1) K N wl))) f g := by
  refine pm_enter (cc := cX4_firstToGrant) (maxL := 3) (ret := (some .int)) (by decide) (Nat.le_of_ble_eq_true rfl) ?_
  intro p e s m below meth c A Qc ls hx hb hml hown hts hlk hA hK hP hD hS hr hq hl
  have hl : lv_has ls 3 [(0, .ref (h 0))] := hl
  have hN := hI.N0
  have hK0 := hI.K0
  have hN8 := hI.N8
  have hK4 := hI.K4
  have hN1 := hI.N1
  have hK1 := hI.K1
  have hwt := hI.waiting
  have hln := hI.len
  refine lv_iconst (v := nI 0) hx hb dX4_firstToGrant_0 (by decide) ?_
  refine lv_istore_n (lv' := [(1, .int (nI 0)), (0, .ref (h 0))]) hx hb dX4_firstToGrant_1 rfl hl (by decide) rfl (fun ls hl => ?_)
  have hloop2 : ∀ (n2 : Nat) (i1 : Nat), i1 ≤ wl.length → (∀ z, z < i1 → pc_ffp (g 1) K N wl z = false) → wl.length - i1 < n2 → ∀ (H : Heap) (locs : List Loc), va_P D pc_Cl (pm_W h cI f g) H → va_D A (pm_W h cI f g) → va_S A s.heap H locs → ∀ ls : Array Slot, lv_has ls 3 [(1, .int (nI i1)), (0, .ref (h 0))] → W p l e ({ frames := 10, cells := 0, slots := 0, locals := 226 } : Room) s m ([.ref (h 0)] : List Value).toArray below meth c H locs 0 0 (MQ below Qc ([.ref (h 0)] : List Value).toArray s 0 0 A) (F0 m 2 ls []) := by
    intro n2
    induction n2 with
    | zero => intro i1 hi1 hp1 hm; exact absurd hm (by omega)
    | succ n2 ih2 =>
      intro i1 hi1 hp1 hm2 H locs hP hD hS ls hl
      refine lv_iload_n hx hb dX4_firstToGrant_2 rfl (lv_at hl 0 rfl) ?_
      refine lv_aload_n hx hb dX4_firstToGrant_3 rfl (lv_at hl 1 rfl) ?_
      refine pm_callI (n := 0) [.int (nI i1)] hx hb hml hown hts hA hK (m_waiting l D h cI f g N (by first | assumption | omega | rfl) (by first | assumption | omega | rfl)) (lw_V q2649 q2651 qs63 q122 q2652) ⟨rfl, rfl⟩ (by decide +kernel) ⟨Nat.le_of_ble_eq_true rfl, Nat.le_of_ble_eq_true rfl⟩ hP hD hS rfl hl.1 rfl (Nat.le_of_ble_eq_true rfl) ⟨Nat.zero_le _, Nat.zero_le _⟩ dX4_firstToGrant_4 (fun H locs hP hD hS => ?_)
      refine pn_icmp_ge (tgt := 48) hx hb (by omega) (by omega) dX4_firstToGrant_7 (by decide) (fun c1 => ?_) (fun c1 => ?_)
      · refine lv_iconst (v := -1) hx hb dX4_firstToGrant_48 (by decide) ?_
        exact pm_retI hx hb hlk hr hq hP hD hS dX4_firstToGrant_49 (by exact pc_ffv_no (by omega) hp1) rfl
      · have hil : i1 < wl.length := by omega
        have hom := hI.memD hil
        have hoN := hI.ltD hil
        have hkk := hI.kind hom
        refine lv_aload_n hx hb dX4_firstToGrant_10 rfl (lv_at hl 1 rfl) ?_
        refine lv_iload_n hx hb dX4_firstToGrant_11 rfl (lv_at hl 0 rfl) ?_
        refine pm_callI (n := 1) [] hx hb hml hown hts hA hK (m_waitingAt l D h cI f g N (nI i1) (by first | assumption | omega | rfl) (by first | assumption | omega | rfl)) (lw_V q2661 q2663 qs65 q122 q2664) ⟨rfl, rfl⟩ (by decide +kernel) ⟨Nat.le_of_ble_eq_true rfl, Nat.le_of_ble_eq_true rfl⟩ hP hD hS rfl hl.1 rfl (Nat.le_of_ble_eq_true rfl) ⟨Nat.zero_le _, Nat.zero_le _⟩ dX4_firstToGrant_12 (fun H locs hP hD hS => ?_)
        refine pn_top (y := nI (wl.getD i1 0)) (hI.nx hil) ?_
        refine lv_istore_n (lv' := [(2, .int (nI (wl.getD i1 0))), (1, .int (nI i1)), (0, .ref (h 0))]) hx hb dX4_firstToGrant_15 rfl hl (by decide) rfl (fun ls hl => ?_)
        refine lv_aload_n hx hb dX4_firstToGrant_16 rfl (lv_at hl 2 rfl) ?_
        refine lv_iload_n hx hb dX4_firstToGrant_17 rfl (lv_at hl 0 rfl) ?_
        refine lv_aload_n hx hb dX4_firstToGrant_18 rfl (lv_at hl 2 rfl) ?_
        refine lv_iload_n hx hb dX4_firstToGrant_19 rfl (lv_at hl 0 rfl) ?_
        refine lv_bipush (v := nI 8) hx hb dX4_firstToGrant_20 (by decide) ?_
        refine pm_callI (n := 2) [.int (nI (wl.getD i1 0)), .ref (h 0)] hx hb hml hown hts hA hK (m_of l D h cI f g (wl.getD i1 0) 8 (by first | assumption | omega | rfl) (by first | assumption | omega | rfl)) (lw_V q2443 q2445 qs48 q122 q2446) ⟨rfl, rfl⟩ (by decide +kernel) ⟨Nat.le_of_ble_eq_true rfl, Nat.le_of_ble_eq_true rfl⟩ hP hD hS rfl hl.1 rfl (Nat.le_of_ble_eq_true rfl) ⟨Nat.zero_le _, Nat.zero_le _⟩ dX4_firstToGrant_22 (fun H locs hP hD hS => ?_)
        refine lv_iconst (v := nI 1) hx hb dX4_firstToGrant_25 (by decide) ?_
        refine lv_isub hx hb dX4_firstToGrant_26 ?_
        refine pn_top (y := nI (pc_kindOf (g 1) (wl.getD i1 0))) (hI.kindI hom) ?_
        refine lv_aload_n hx hb dX4_firstToGrant_27 rfl (lv_at hl 2 rfl) ?_
        refine lv_iload_n hx hb dX4_firstToGrant_28 rfl (lv_at hl 0 rfl) ?_
        refine lv_bipush (v := nI 9) hx hb dX4_firstToGrant_29 (by decide) ?_
        refine pm_callI (n := 2) [.int (nI (pc_kindOf (g 1) (wl.getD i1 0))), .int (nI (wl.getD i1 0)), .ref (h 0)] hx hb hml hown hts hA hK (m_of l D h cI f g (wl.getD i1 0) 9 (by first | assumption | omega | rfl) (by first | assumption | omega | rfl)) (lw_V q2443 q2445 qs48 q122 q2446) ⟨rfl, rfl⟩ (by decide +kernel) ⟨Nat.le_of_ble_eq_true rfl, Nat.le_of_ble_eq_true rfl⟩ hP hD hS rfl hl.1 rfl (Nat.le_of_ble_eq_true rfl) ⟨Nat.zero_le _, Nat.zero_le _⟩ dX4_firstToGrant_31 (fun H locs hP hD hS => ?_)
        refine pm_callI (n := 3) [] hx hb hml hown hts hA hK (m_canGrant l D h cI f g K N (wl.getD i1 0) (pc_kindOf (g 1) (wl.getD i1 0)) (pc_of (g 1) (wl.getD i1 0) 9) (by first | assumption | omega | rfl) (by first | assumption | omega | rfl) (by first | assumption | omega | rfl) (by first | assumption | omega | rfl) (by first | assumption | omega | rfl) (by omega)) (lw_V q2728 q2730 qs71 q122 q2731) ⟨rfl, rfl⟩ (by decide +kernel) ⟨Nat.le_of_ble_eq_true rfl, Nat.le_of_ble_eq_true rfl⟩ hP hD hS rfl hl.1 rfl (Nat.le_of_ble_eq_true rfl) ⟨Nat.zero_le _, Nat.zero_le _⟩ dX4_firstToGrant_34 (fun H locs hP hD hS => ?_)
        refine pb_if_eq (tgt := 42) hx hb dX4_firstToGrant_37 (by decide) (fun c2 => ?_) (fun c2 => ?_)
        · refine lv_iinc (v := nI (i1 + 1)) (lv' := [(1, .int (nI (i1 + 1))), (2, .int (nI (wl.getD i1 0))), (0, .ref (h 0))]) hx hb dX4_firstToGrant_42 hl (k := 1) rfl (nI_1 _) (by decide) rfl (fun ls hl => ?_)
          refine lv_goto (tgt := 2) hx hb dX4_firstToGrant_45 (by decide) ?_
          exact ih2 (i1 + 1) (by first | assumption | omega) (lt_s hp1 c2) (by omega) _ _ hP hD hS _ (lv_sub hl [0, 2] rfl)
        · refine lv_iload_n hx hb dX4_firstToGrant_40 rfl (lv_at hl 0 rfl) ?_
          exact pm_retI hx hb hlk hr hq hP hD hS dX4_firstToGrant_41 (by exact hI.ffv_at hil hp1 c2) rfl
  exact hloop2 (wl.length - 0 + 1) 0 (by first | assumption | omega) lt_0 (by omega) _ _ hP hD hS _ (lv_sub hl [0, 1] rfl)

set_option maxHeartbeats 4000000 in
theorem m_serves (l : Launch) (D : va_G) (h : Nat → Nat) (cI : ClassId) (f : Nat → Int32) (g : Nat → Nat → Int32) (B : Nat) (K : Nat) (N : Nat) (wl : List Nat) (hI : pc_inv B (g 1) K N wl) : pm_C l yX4_serves (ws_ yX4_serves cX4_serves 5 (some .int)) ({ frames := 11, cells := 0, slots := 0, locals := 248 } : Room) D h cI [.ref (h 0)] f g (some (.int (nI (pc_serve (g 1) K N wl).1))) f (va_up g 1 (pc_serve (g 1) K N wl).2.1) := by
  refine pm_enter (cc := cX4_serves) (maxL := 5) (ret := (some .int)) (by decide) (Nat.le_of_ble_eq_true rfl) ?_
  intro p e s m below meth c A Qc ls hx hb hml hown hts hlk hA hK hP hD hS hr hq hl
  have hl : lv_has ls 5 [(0, .ref (h 0))] := hl
  refine lv_iconst (v := nI 0) hx hb dX4_serves_0 (by decide) ?_
  refine lv_istore_n (lv' := [(1, .int (nI 0)), (0, .ref (h 0))]) hx hb dX4_serves_1 rfl hl (by decide) rfl (fun ls hl => ?_)
  refine lv_aload_n hx hb dX4_serves_2 rfl (lv_at hl 1 rfl) ?_
  refine pm_callI (n := 0) [] hx hb hml hown hts hA hK (m_firstToGrant l D h cI f g B K N wl hI) (lw_V q2760 q2762 qs77 q122 q2763) ⟨rfl, rfl⟩ (by decide +kernel) ⟨Nat.le_of_ble_eq_true rfl, Nat.le_of_ble_eq_true rfl⟩ hP hD hS rfl hl.1 rfl (Nat.le_of_ble_eq_true rfl) ⟨Nat.zero_le _, Nat.zero_le _⟩ dX4_serves_3 (fun H locs hP hD hS => ?_)
  refine lv_istore_n (lv' := [(2, .int (pc_ffv (g 1) K N wl)), (1, .int (nI 0)), (0, .ref (h 0))]) hx hb dX4_serves_6 rfl hl (by decide) rfl (fun ls hl => ?_)
  have hloop7 : ∀ (n7 : Nat) (w1 : List Nat) (r1 : Nat → Int32) (n1 : Nat), pc_inv B r1 K N w1 → n1 + (pc_serve r1 K N w1).1 = (pc_serve (g 1) K N wl).1 → (pc_serve r1 K N w1).2.1 = (pc_serve (g 1) K N wl).2.1 → w1.length < n7 → ∀ (H : Heap) (locs : List Loc), va_P D pc_Cl (pm_W h cI f (va_up g 1 r1)) H → va_D A (pm_W h cI f (va_up g 1 r1)) → va_S A s.heap H locs → ∀ ls : Array Slot, lv_has ls 5 [(1, .int (nI n1)), (2, .int (pc_ffv r1 K N w1)), (0, .ref (h 0))] → W p l e ({ frames := 11, cells := 0, slots := 0, locals := 248 } : Room) s m ([.ref (h 0)] : List Value).toArray below meth c H locs 0 0 (MQ below Qc ([.ref (h 0)] : List Value).toArray s 0 0 A) (F0 m 7 ls []) := by
    intro n7
    induction n7 with
    | zero => intro w1 r1 n1 hI1 hs1 hr1 hm; exact absurd hm (by omega)
    | succ n7 ih7 =>
      intro w1 r1 n1 hI1 hs1 hr1 hm7 H locs hP hD hS ls hl
      refine lv_iload_n hx hb dX4_serves_7 rfl (lv_at hl 1 rfl) ?_
      refine lv_iconst (v := -1) hx hb dX4_serves_8 (by decide) ?_
      refine lv_icmp_eq (tgt := 55) hx hb dX4_serves_9 (by decide) (fun c1 => ?_) (fun c1 => ?_)
      · refine lv_iload_n hx hb dX4_serves_55 rfl (lv_at hl 0 rfl) ?_
        exact pm_retI hx hb hlk hr hq hP hD hS dX4_serves_56 (by rw [← hs1, pc_sv_stop (pc_ffv_eq hI1 c1)]; rfl) (by rw [← hr1, pc_sv_stop (pc_ffv_eq hI1 c1)])
      · have hff := pc_ffv_ne hI1 c1
        have hom := hI1.memD hff.1
        have hoN := hI1.ltD hff.1
        have hkk := hI1.kind hom
        have hN8 := hI1.N8
        have hK4 := hI1.K4
        have hle := List.length_eraseIdx_of_lt hff.1
        rw [hff.2] at hl
        refine lv_aload_n hx hb dX4_serves_12 rfl (lv_at hl 2 rfl) ?_
        refine lv_iload_n hx hb dX4_serves_13 rfl (lv_at hl 1 rfl) ?_
        refine lv_bipush (v := nI 8) hx hb dX4_serves_14 (by decide) ?_
        refine pm_callI (n := 2) [] hx hb hml hown hts hA hK (m_of l D h cI f (va_up g 1 r1) (w1.getD (pc_ff r1 K N w1) 0) 8 (by first | assumption | omega | rfl) (by first | assumption | omega | rfl)) (lw_V q2443 q2445 qs48 q122 q2446) ⟨rfl, rfl⟩ (by decide +kernel) ⟨Nat.le_of_ble_eq_true rfl, Nat.le_of_ble_eq_true rfl⟩ hP hD hS rfl hl.1 rfl (Nat.le_of_ble_eq_true rfl) ⟨Nat.zero_le _, Nat.zero_le _⟩ dX4_serves_16 (fun H locs hP hD hS => ?_)
        refine pn_top (y := pc_of r1 (w1.getD (pc_ff r1 K N w1) 0) 8) rfl ?_
        refine lv_iconst (v := nI 1) hx hb dX4_serves_19 (by decide) ?_
        refine lv_isub hx hb dX4_serves_20 ?_
        refine pn_top (y := nI (pc_kindOf r1 (w1.getD (pc_ff r1 K N w1) 0))) (hI1.kindI hom) ?_
        refine lv_istore_n (lv' := [(3, .int (nI (pc_kindOf r1 (w1.getD (pc_ff r1 K N w1) 0)))), (1, .int (nI n1)), (2, .int (nI (w1.getD (pc_ff r1 K N w1) 0))), (0, .ref (h 0))]) hx hb dX4_serves_21 rfl hl (by decide) rfl (fun ls hl => ?_)
        refine lv_aload_n hx hb dX4_serves_22 rfl (lv_at hl 3 rfl) ?_
        refine lv_iload_n hx hb dX4_serves_23 rfl (lv_at hl 2 rfl) ?_
        refine lv_bipush (v := nI 9) hx hb dX4_serves_24 (by decide) ?_
        refine pm_callI (n := 2) [] hx hb hml hown hts hA hK (m_of l D h cI f (va_up g 1 r1) (w1.getD (pc_ff r1 K N w1) 0) 9 (by first | assumption | omega | rfl) (by first | assumption | omega | rfl)) (lw_V q2443 q2445 qs48 q122 q2446) ⟨rfl, rfl⟩ (by decide +kernel) ⟨Nat.le_of_ble_eq_true rfl, Nat.le_of_ble_eq_true rfl⟩ hP hD hS rfl hl.1 rfl (Nat.le_of_ble_eq_true rfl) ⟨Nat.zero_le _, Nat.zero_le _⟩ dX4_serves_26 (fun H locs hP hD hS => ?_)
        refine pn_top (y := pc_of r1 (w1.getD (pc_ff r1 K N w1) 0) 9) rfl ?_
        refine lv_istore (lv' := [(4, .int (pc_of r1 (w1.getD (pc_ff r1 K N w1) 0) 9)), (3, .int (nI (pc_kindOf r1 (w1.getD (pc_ff r1 K N w1) 0)))), (1, .int (nI n1)), (2, .int (nI (w1.getD (pc_ff r1 K N w1) 0))), (0, .ref (h 0))]) hx hb dX4_serves_29 hl (by decide) rfl (fun ls hl => ?_)
        refine lv_aload_n hx hb dX4_serves_31 rfl (lv_at hl 4 rfl) ?_
        refine lv_iload_n hx hb dX4_serves_32 rfl (lv_at hl 3 rfl) ?_
        refine pm_callV (n := 1) [] hx hb hml hown hts hA hK (m_forgets l D h cI f (va_up g 1 r1) (w1.getD (pc_ff r1 K N w1) 0) (by first | assumption | omega | rfl)) (lw_V q2752 q2754 qs75 q122 q2755) ⟨rfl, rfl⟩ (by decide +kernel) ⟨Nat.le_of_ble_eq_true rfl, Nat.le_of_ble_eq_true rfl⟩ hP hD hS rfl hl.1 rfl (Nat.le_of_ble_eq_true rfl) ⟨Nat.zero_le _, Nat.zero_le _⟩ dX4_serves_33 (fun H locs hP hD hS => ?_)
        have hP : va_P D pc_Cl (pm_W h cI f (va_up g 1 (pc_forgets r1 (w1.getD (pc_ff r1 K N w1) 0)))) H := hP
        have hD : va_D A (pm_W h cI f (va_up g 1 (pc_forgets r1 (w1.getD (pc_ff r1 K N w1) 0)))) := hD
        refine lv_aload_n hx hb dX4_serves_36 rfl (lv_at hl 4 rfl) ?_
        refine lv_iload_n hx hb dX4_serves_37 rfl (lv_at hl 3 rfl) ?_
        refine lv_iload_n hx hb dX4_serves_38 rfl (lv_at hl 1 rfl) ?_
        refine lv_iload hx hb dX4_serves_39 (lv_at hl 0 rfl) ?_
        refine pm_callV (n := 3) [] hx hb hml hown hts hA hK (m_grants l D h cI f (va_up g 1 (pc_forgets r1 (w1.getD (pc_ff r1 K N w1) 0))) (w1.getD (pc_ff r1 K N w1) 0) (pc_kindOf r1 (w1.getD (pc_ff r1 K N w1) 0)) (pc_of r1 (w1.getD (pc_ff r1 K N w1) 0) 9) (by first | assumption | omega | rfl) (by omega)) (lw_V q2764 q2766 qs78 q122 q2767) ⟨rfl, rfl⟩ (by decide +kernel) ⟨Nat.le_of_ble_eq_true rfl, Nat.le_of_ble_eq_true rfl⟩ hP hD hS rfl hl.1 rfl (Nat.le_of_ble_eq_true rfl) ⟨Nat.zero_le _, Nat.zero_le _⟩ dX4_serves_41 (fun H locs hP hD hS => ?_)
        have hP : va_P D pc_Cl (pm_W h cI f (va_up g 1 (pc_grants (pc_forgets r1 (w1.getD (pc_ff r1 K N w1) 0)) (w1.getD (pc_ff r1 K N w1) 0) (pc_kindOf r1 (w1.getD (pc_ff r1 K N w1) 0)) (pc_of r1 (w1.getD (pc_ff r1 K N w1) 0) 9)))) H := hP
        have hD : va_D A (pm_W h cI f (va_up g 1 (pc_grants (pc_forgets r1 (w1.getD (pc_ff r1 K N w1) 0)) (w1.getD (pc_ff r1 K N w1) 0) (pc_kindOf r1 (w1.getD (pc_ff r1 K N w1) 0)) (pc_of r1 (w1.getD (pc_ff r1 K N w1) 0) 9)))) := hD
        refine lv_iinc (v := nI (n1 + 1)) (lv' := [(1, .int (nI (n1 + 1))), (4, .int (pc_of r1 (w1.getD (pc_ff r1 K N w1) 0) 9)), (3, .int (nI (pc_kindOf r1 (w1.getD (pc_ff r1 K N w1) 0)))), (2, .int (nI (w1.getD (pc_ff r1 K N w1) 0))), (0, .ref (h 0))]) hx hb dX4_serves_44 hl (k := 2) rfl (nI_1 _) (by decide) rfl (fun ls hl => ?_)
        refine lv_aload_n hx hb dX4_serves_47 rfl (lv_at hl 4 rfl) ?_
        refine pm_callI (n := 0) [] hx hb hml hown hts hA hK (m_firstToGrant l D h cI f (va_up g 1 (pc_grants (pc_forgets r1 (w1.getD (pc_ff r1 K N w1) 0)) (w1.getD (pc_ff r1 K N w1) 0) (pc_kindOf r1 (w1.getD (pc_ff r1 K N w1) 0)) (pc_of r1 (w1.getD (pc_ff r1 K N w1) 0) 9))) B K N (w1.eraseIdx (pc_ff r1 K N w1)) (hI1.served hff.1)) (lw_V q2760 q2762 qs77 q122 q2763) ⟨rfl, rfl⟩ (by decide +kernel) ⟨Nat.le_of_ble_eq_true rfl, Nat.le_of_ble_eq_true rfl⟩ hP hD hS rfl hl.1 rfl (Nat.le_of_ble_eq_true rfl) ⟨Nat.zero_le _, Nat.zero_le _⟩ dX4_serves_48 (fun H locs hP hD hS => ?_)
        refine pn_top (y := pc_ffv (pc_grants (pc_forgets r1 (w1.getD (pc_ff r1 K N w1) 0)) (w1.getD (pc_ff r1 K N w1) 0) (pc_kindOf r1 (w1.getD (pc_ff r1 K N w1) 0)) (pc_of r1 (w1.getD (pc_ff r1 K N w1) 0) 9)) K N (w1.eraseIdx (pc_ff r1 K N w1))) rfl ?_
        refine lv_istore_n (lv' := [(2, .int (pc_ffv (pc_grants (pc_forgets r1 (w1.getD (pc_ff r1 K N w1) 0)) (w1.getD (pc_ff r1 K N w1) 0) (pc_kindOf r1 (w1.getD (pc_ff r1 K N w1) 0)) (pc_of r1 (w1.getD (pc_ff r1 K N w1) 0) 9)) K N (w1.eraseIdx (pc_ff r1 K N w1)))), (1, .int (nI (n1 + 1))), (4, .int (pc_of r1 (w1.getD (pc_ff r1 K N w1) 0) 9)), (3, .int (nI (pc_kindOf r1 (w1.getD (pc_ff r1 K N w1) 0)))), (0, .ref (h 0))]) hx hb dX4_serves_51 rfl hl (by decide) rfl (fun ls hl => ?_)
        refine lv_goto (tgt := 7) hx hb dX4_serves_52 (by decide) ?_
        exact ih7 (w1.eraseIdx (pc_ff r1 K N w1)) (pc_grants (pc_forgets r1 (w1.getD (pc_ff r1 K N w1) 0)) (w1.getD (pc_ff r1 K N w1) 0) (pc_kindOf r1 (w1.getD (pc_ff r1 K N w1) 0)) (pc_of r1 (w1.getD (pc_ff r1 K N w1) 0) 9)) (n1 + 1) (hI1.served hff.1) (by rw [← hs1, pc_sv_step hff.1]; exact Nat.add_right_comm _ _ _ ▸ rfl) (by rw [← hr1, pc_sv_step hff.1]; rfl) (by omega) _ _ hP hD hS _ (lv_sub hl [1, 0, 4] rfl)
  exact hloop7 (wl.length + 1) wl (g 1) 0 hI (Nat.zero_add _) rfl (by omega) _ _ hP hD hS _ (lv_sub hl [1, 0, 2] rfl)

set_option maxHeartbeats 4000000 in
theorem m_releases (l : Launch) (D : va_G) (h : Nat → Nat) (cI : ClassId) (f : Nat → Int32) (g : Nat → Nat → Int32) (B : Nat) (K : Nat) (N : Nat) (wl : List Nat) (o : Nat) (k : Nat) (x : Int32) (hI : pc_inv B (g 1) K N wl) (ho : o < 8) (hk : k < 4) : pm_C l yX4_releases (ws_ yX4_releases cX4_releases 4 (some .int)) ({ frames := 12, cells := 0, slots := 0, locals := 272 } : Room) D h cI [.ref (h 0), .int (nI o), .int (nI k), .int (x)] f g (some (.int (nI (pc_serve (pc_rel (g 1) o k x) K N wl).1))) f (va_up g 1 (pc_serve (pc_rel (g 1) o k x) K N wl).2.1) := by
  refine pm_enter (cc := cX4_releases) (maxL := 4) (ret := (some .int)) (by decide) (Nat.le_of_ble_eq_true rfl) ?_
  intro p e s m below meth c A Qc ls hx hb hml hown hts hlk hA hK hP hD hS hr hq hl
  have hl : lv_has ls 4 [(0, .ref (h 0)), (1, .int (nI o)), (2, .int (nI k)), (3, .int (x))] := hl
  refine lv_aload_n hx hb dX4_releases_0 rfl (lv_at hl 0 rfl) ?_
  refine lv_iload_n hx hb dX4_releases_1 rfl (lv_at hl 1 rfl) ?_
  refine lv_iload_n hx hb dX4_releases_2 rfl (lv_at hl 2 rfl) ?_
  refine lv_iload_n hx hb dX4_releases_3 rfl (lv_at hl 3 rfl) ?_
  refine lv_ineg hx hb dX4_releases_4 ?_
  refine pm_callV (n := 3) [] hx hb hml hown hts hA hK (m_gives l D h cI f g o k (-x) (by first | assumption | omega | rfl) (by first | assumption | omega | rfl)) (lw_V q2720 q2722 qs70 q122 q2723) ⟨rfl, rfl⟩ (by decide +kernel) ⟨Nat.le_of_ble_eq_true rfl, Nat.le_of_ble_eq_true rfl⟩ hP hD hS rfl hl.1 rfl (Nat.le_of_ble_eq_true rfl) ⟨Nat.zero_le _, Nat.zero_le _⟩ dX4_releases_5 (fun H locs hP hD hS => ?_)
  have hP : va_P D pc_Cl (pm_W h cI f (va_up g 1 (pc_gives (g 1) o k (-x)))) H := hP
  have hD : va_D A (pm_W h cI f (va_up g 1 (pc_gives (g 1) o k (-x)))) := hD
  refine lv_aload_n hx hb dX4_releases_8 rfl (lv_at hl 0 rfl) ?_
  refine va_get (D := D) (ci := 0) (v := .ref (h 1)) (C := RX4) (T := TX4) (N := 22) hx hb hts in_X4 hown hK hP 0 rfl rfl 1 (by decide) (hts _ q2483) (fun _ h9 => h9) rfl dX4_releases_9 ?_
  refine lv_bipush (v := nI 8) hx hb dX4_releases_12 (by decide) ?_
  refine lv_dup2_11 hx hb dX4_releases_14 rfl rfl ?_
  refine pn_iald (e9 := 8) (f := (pc_gives (g 1) o k (-x))) hx hb hK hP 1 0 rfl rfl (by omega) (by decide) dX4_releases_15 ?_
  refine lv_iload_n hx hb dX4_releases_16 rfl (lv_at hl 3 rfl) ?_
  refine lv_iadd hx hb dX4_releases_17 ?_
  refine pm_ast1 (g := (va_up g 1 (pc_gives (g 1) o k (-x)))) (g2 := (va_up g 1 (upd (pc_gives (g 1) o k (-x)) 8 (((pc_gives (g 1) o k (-x)) 8) + x)))) (X := (pc_gives (g 1) o k (-x))) (e9 := 8) hx hb hK hP hD hS (va_up_self _ _ _) (by omega) (bx_uu _ _ _ _) dX4_releases_18 (fun H locs hP hD hS => ?_)
  refine lv_aload_n hx hb dX4_releases_19 rfl (lv_at hl 0 rfl) ?_
  refine pm_callI (n := 0) [] hx hb hml hown hts hA hK (m_serves l D h cI f (va_up g 1 (upd (pc_gives (g 1) o k (-x)) 8 (((pc_gives (g 1) o k (-x)) 8) + x))) B K N wl ((hI.gives _ hk).plus _ (by omega) (by omega))) (lw_V q2756 q2758 qs76 q122 q2759) ⟨rfl, rfl⟩ (by decide +kernel) ⟨Nat.le_of_ble_eq_true rfl, Nat.le_of_ble_eq_true rfl⟩ hP hD hS rfl hl.1 rfl (Nat.le_of_ble_eq_true rfl) ⟨Nat.zero_le _, Nat.zero_le _⟩ dX4_releases_20 (fun H locs hP hD hS => ?_)
  have hP : va_P D pc_Cl (pm_W h cI f (va_up g 1 (pc_serve (upd (pc_gives (g 1) o k (-x)) 8 (((pc_gives (g 1) o k (-x)) 8) + x)) K N wl).2.1)) H := hP
  have hD : va_D A (pm_W h cI f (va_up g 1 (pc_serve (upd (pc_gives (g 1) o k (-x)) 8 (((pc_gives (g 1) o k (-x)) 8) + x)) K N wl).2.1)) := hD
  refine pn_top (y := nI (pc_serve (upd (pc_gives (g 1) o k (-x)) 8 (((pc_gives (g 1) o k (-x)) 8) + x)) K N wl).1) rfl ?_
  exact pm_retI hx hb hlk hr hq hP hD hS dX4_releases_23 (by rfl) (by rfl)

set_option maxHeartbeats 4000000 in
theorem m_finishes (l : Launch) (D : va_G) (h : Nat → Nat) (cI : ClassId) (f : Nat → Int32) (g : Nat → Nat → Int32) (B : Nat) (K : Nat) (N : Nat) (wl : List Nat) (o : Nat) (hI : pc_inv B (g 1) K N wl) (ho : o < N) : pm_C l yX4_finishes (ws_ yX4_finishes cX4_finishes 3 (some .int)) ({ frames := 12, cells := 0, slots := 0, locals := 272 } : Room) D h cI [.ref (h 0), .int (nI o)] f g (some (.int (nI (pc_serve (pc_fin (g 1) o K) K N (wl.erase o)).1))) f (va_up g 1 (pc_serve (pc_fin (g 1) o K) K N (wl.erase o)).2.1) := by
  refine pm_enter (cc := cX4_finishes) (maxL := 3) (ret := (some .int)) (by decide) (Nat.le_of_ble_eq_true rfl) ?_
  intro p e s m below meth c A Qc ls hx hb hml hown hts hlk hA hK hP hD hS hr hq hl
  have hl : lv_has ls 3 [(0, .ref (h 0)), (1, .int (nI o))] := hl
  have hN := hI.N0
  have hK0 := hI.K0
  have hN8 := hI.N8
  have hK4 := hI.K4
  have hN1 := hI.N1
  have hK1 := hI.K1
  have hwt := hI.waiting
  have hln := hI.len
  refine lv_aload_n hx hb dX4_finishes_0 rfl (lv_at hl 0 rfl) ?_
  refine lv_iload_n hx hb dX4_finishes_1 rfl (lv_at hl 1 rfl) ?_
  refine pm_callV (n := 1) [] hx hb hml hown hts hA hK (m_forgets l D h cI f g o (by first | assumption | omega | rfl)) (lw_V q2752 q2754 qs75 q122 q2755) ⟨rfl, rfl⟩ (by decide +kernel) ⟨Nat.le_of_ble_eq_true rfl, Nat.le_of_ble_eq_true rfl⟩ hP hD hS rfl hl.1 rfl (Nat.le_of_ble_eq_true rfl) ⟨Nat.zero_le _, Nat.zero_le _⟩ dX4_finishes_2 (fun H locs hP hD hS => ?_)
  have hP : va_P D pc_Cl (pm_W h cI f (va_up g 1 (pc_forgets (g 1) o))) H := hP
  have hD : va_D A (pm_W h cI f (va_up g 1 (pc_forgets (g 1) o))) := hD
  refine lv_iconst (v := nI 0) hx hb dX4_finishes_5 (by decide) ?_
  refine lv_istore_n (lv' := [(2, .int (nI 0)), (0, .ref (h 0)), (1, .int (nI o))]) hx hb dX4_finishes_6 rfl hl (by decide) rfl (fun ls hl => ?_)
  have hloop7 : ∀ (n7 : Nat) (i1 : Nat), i1 ≤ K → K - i1 < n7 → ∀ (H : Heap) (locs : List Loc), va_P D pc_Cl (pm_W h cI f (va_up g 1 (pc_fin (g 1) o i1))) H → va_D A (pm_W h cI f (va_up g 1 (pc_fin (g 1) o i1))) → va_S A s.heap H locs → ∀ ls : Array Slot, lv_has ls 3 [(2, .int (nI i1)), (0, .ref (h 0)), (1, .int (nI o))] → W p l e ({ frames := 12, cells := 0, slots := 0, locals := 272 } : Room) s m ([.ref (h 0), .int (nI o)] : List Value).toArray below meth c H locs 0 0 (MQ below Qc ([.ref (h 0), .int (nI o)] : List Value).toArray s 0 0 A) (F0 m 7 ls []) := by
    intro n7
    induction n7 with
    | zero => intro i1 hi1 hm; exact absurd hm (by omega)
    | succ n7 ih7 =>
      intro i1 hi1 hm7 H locs hP hD hS ls hl
      have hf0 := (pc_fin_inv hI o (i := i1) (by omega)).K0
      refine lv_iload_n hx hb dX4_finishes_7 rfl (lv_at hl 0 rfl) ?_
      refine lv_aload_n hx hb dX4_finishes_8 rfl (lv_at hl 1 rfl) ?_
      refine va_get (D := D) (ci := 0) (v := .ref (h 1)) (C := RX4) (T := TX4) (N := 22) hx hb hts in_X4 hown hK hP 0 rfl rfl 1 (by decide) (hts _ q2483) (fun _ h9 => h9) rfl dX4_finishes_9 ?_
      refine lv_iconst (v := nI 0) hx hb dX4_finishes_12 (by decide) ?_
      refine pn_iald (e9 := 0) (f := (pc_fin (g 1) o i1)) hx hb hK hP 1 0 rfl rfl (by omega) (by decide) dX4_finishes_13 ?_
      refine pn_top hf0 ?_
      refine pn_icmp_ge (tgt := 50) hx hb (by omega) (by omega) dX4_finishes_14 (by decide) (fun c1 => ?_) (fun c1 => ?_)
      · obtain hiK : i1 = K := by omega
        rw [hiK] at hP hD
        refine lv_aload_n hx hb dX4_finishes_50 rfl (lv_at hl 1 rfl) ?_
        refine pm_callI (n := 0) [] hx hb hml hown hts hA hK (m_serves l D h cI f (va_up g 1 (pc_fin (g 1) o K)) B K N (wl.erase o) (pc_fin_inv hI o (i := K) (by omega))) (lw_V q2756 q2758 qs76 q122 q2759) ⟨rfl, rfl⟩ (by decide +kernel) ⟨Nat.le_of_ble_eq_true rfl, Nat.le_of_ble_eq_true rfl⟩ hP hD hS rfl hl.1 rfl (Nat.le_of_ble_eq_true rfl) ⟨Nat.zero_le _, Nat.zero_le _⟩ dX4_finishes_51 (fun H locs hP hD hS => ?_)
        have hP : va_P D pc_Cl (pm_W h cI f (va_up g 1 (pc_serve (pc_fin (g 1) o K) K N (wl.erase o)).2.1)) H := hP
        have hD : va_D A (pm_W h cI f (va_up g 1 (pc_serve (pc_fin (g 1) o K) K N (wl.erase o)).2.1)) := hD
        refine pn_top (y := nI (pc_serve (pc_fin (g 1) o K) K N (wl.erase o)).1) rfl ?_
        exact pm_retI hx hb hlk hr hq hP hD hS dX4_finishes_54 rfl rfl
      · refine lv_aload_n hx hb dX4_finishes_17 rfl (lv_at hl 1 rfl) ?_
        refine va_get (D := D) (ci := 0) (v := .ref (h 1)) (C := RX4) (T := TX4) (N := 22) hx hb hts in_X4 hown hK hP 0 rfl rfl 1 (by decide) (hts _ q2483) (fun _ h9 => h9) rfl dX4_finishes_18 ?_
        refine lv_bipush (v := nI 8) hx hb dX4_finishes_21 (by decide) ?_
        refine lv_dup2_11 hx hb dX4_finishes_23 rfl rfl ?_
        refine pn_iald (e9 := 8) (f := (pc_fin (g 1) o i1)) hx hb hK hP 1 0 rfl rfl (by omega) (by decide) dX4_finishes_24 ?_
        refine lv_aload_n hx hb dX4_finishes_25 rfl (lv_at hl 1 rfl) ?_
        refine lv_iload_n hx hb dX4_finishes_26 rfl (lv_at hl 2 rfl) ?_
        refine lv_iconst (v := nI 4) hx hb dX4_finishes_27 (by decide) ?_
        refine lv_iload_n hx hb dX4_finishes_28 rfl (lv_at hl 0 rfl) ?_
        refine pn_iadd hx hb dX4_finishes_29 ?_
        refine pm_callI (n := 2) [.int ((pc_fin (g 1) o i1) 8), .int (nI 8), .ref (h 1)] hx hb hml hown hts hA hK (m_of l D h cI f (va_up g 1 (pc_fin (g 1) o i1)) o (4 + i1) (by first | assumption | omega | rfl) (by first | assumption | omega | rfl)) (lw_V q2443 q2445 qs48 q122 q2446) ⟨rfl, rfl⟩ (by decide +kernel) ⟨Nat.le_of_ble_eq_true rfl, Nat.le_of_ble_eq_true rfl⟩ hP hD hS rfl hl.1 rfl (Nat.le_of_ble_eq_true rfl) ⟨Nat.zero_le _, Nat.zero_le _⟩ dX4_finishes_30 (fun H locs hP hD hS => ?_)
        refine pn_top (y := pc_of (pc_fin (g 1) o i1) o (4 + i1)) rfl ?_
        refine lv_iadd hx hb dX4_finishes_33 ?_
        refine pm_ast1 (g := (va_up g 1 (pc_fin (g 1) o i1))) (g2 := (va_up g 1 (upd (pc_fin (g 1) o i1) 8 (((pc_fin (g 1) o i1) 8) + (pc_of (pc_fin (g 1) o i1) o (4 + i1)))))) (X := (pc_fin (g 1) o i1)) (e9 := 8) hx hb hK hP hD hS (va_up_self _ _ _) (by omega) (bx_uu _ _ _ _) dX4_finishes_34 (fun H locs hP hD hS => ?_)
        refine lv_aload_n hx hb dX4_finishes_35 rfl (lv_at hl 1 rfl) ?_
        refine lv_iload_n hx hb dX4_finishes_36 rfl (lv_at hl 2 rfl) ?_
        refine lv_iconst (v := nI 4) hx hb dX4_finishes_37 (by decide) ?_
        refine lv_iload_n hx hb dX4_finishes_38 rfl (lv_at hl 0 rfl) ?_
        refine pn_iadd hx hb dX4_finishes_39 ?_
        refine lv_iconst (v := nI 0) hx hb dX4_finishes_40 (by decide) ?_
        refine pm_callV (n := 3) [] hx hb hml hown hts hA hK (m_lays l D h cI f (va_up g 1 (upd (pc_fin (g 1) o i1) 8 (((pc_fin (g 1) o i1) 8) + (pc_of (pc_fin (g 1) o i1) o (4 + i1))))) o (4 + i1) (nI 0) (by first | assumption | omega | rfl) (by first | assumption | omega | rfl)) (lw_V q2430 q2432 qs45 q122 q2433) ⟨rfl, rfl⟩ (by decide +kernel) ⟨Nat.le_of_ble_eq_true rfl, Nat.le_of_ble_eq_true rfl⟩ hP hD hS rfl hl.1 rfl (Nat.le_of_ble_eq_true rfl) ⟨Nat.zero_le _, Nat.zero_le _⟩ dX4_finishes_41 (fun H locs hP hD hS => ?_)
        have hP : va_P D pc_Cl (pm_W h cI f (va_up g 1 (pc_lays (upd (pc_fin (g 1) o i1) 8 (((pc_fin (g 1) o i1) 8) + (pc_of (pc_fin (g 1) o i1) o (4 + i1)))) o (4 + i1) (nI 0)))) H := hP
        have hD : va_D A (pm_W h cI f (va_up g 1 (pc_lays (upd (pc_fin (g 1) o i1) 8 (((pc_fin (g 1) o i1) 8) + (pc_of (pc_fin (g 1) o i1) o (4 + i1)))) o (4 + i1) (nI 0)))) := hD
        refine lv_iinc (v := nI (i1 + 1)) (lv' := [(2, .int (nI (i1 + 1))), (0, .ref (h 0)), (1, .int (nI o))]) hx hb dX4_finishes_44 hl (k := 0) rfl (nI_1 _) (by decide) rfl (fun ls hl => ?_)
        refine lv_goto (tgt := 7) hx hb dX4_finishes_47 (by decide) ?_
        exact ih7 (i1 + 1) (by first | assumption | omega) (by omega) _ _ hP hD hS _ (lv_sub hl [0, 1, 2] rfl)
  exact hloop7 (K - 0 + 1) 0 (by first | assumption | omega) (by omega) _ _ hP hD hS _ (lv_sub hl [0, 1, 2] rfl)

set_option maxHeartbeats 4000000 in
theorem m_withdraws (l : Launch) (D : va_G) (h : Nat → Nat) (cI : ClassId) (f : Nat → Int32) (g : Nat → Nat → Int32) (B : Nat) (K : Nat) (N : Nat) (wl : List Nat) (o : Nat) (hI : pc_inv B (g 1) K N wl) (ho : o < N) : pm_C l yX4_withdraws (ws_ yX4_withdraws cX4_withdraws 3 (some .int)) ({ frames := 12, cells := 0, slots := 0, locals := 272 } : Room) D h cI [.ref (h 0), .int (nI o)] f g (some (.int (nI (pc_waiting (pc_serve (pc_forgets (g 1) o) K N (wl.erase o)).2.1 N)))) f (va_up g 1 (pc_serve (pc_forgets (g 1) o) K N (wl.erase o)).2.1) := by
  refine pm_enter (cc := cX4_withdraws) (maxL := 3) (ret := (some .int)) (by decide) (Nat.le_of_ble_eq_true rfl) ?_
  intro p e s m below meth c A Qc ls hx hb hml hown hts hlk hA hK hP hD hS hr hq hl
  have hl : lv_has ls 3 [(0, .ref (h 0)), (1, .int (nI o))] := hl
  have hN := hI.N0
  have hK0 := hI.K0
  have hN8 := hI.N8
  have hK4 := hI.K4
  have hN1 := hI.N1
  have hK1 := hI.K1
  have hwt := hI.waiting
  have hln := hI.len
  refine lv_aload_n hx hb dX4_withdraws_0 rfl (lv_at hl 0 rfl) ?_
  refine lv_iload_n hx hb dX4_withdraws_1 rfl (lv_at hl 1 rfl) ?_
  refine pm_callV (n := 1) [] hx hb hml hown hts hA hK (m_forgets l D h cI f g o (by first | assumption | omega | rfl)) (lw_V q2752 q2754 qs75 q122 q2755) ⟨rfl, rfl⟩ (by decide +kernel) ⟨Nat.le_of_ble_eq_true rfl, Nat.le_of_ble_eq_true rfl⟩ hP hD hS rfl hl.1 rfl (Nat.le_of_ble_eq_true rfl) ⟨Nat.zero_le _, Nat.zero_le _⟩ dX4_withdraws_2 (fun H locs hP hD hS => ?_)
  have hP : va_P D pc_Cl (pm_W h cI f (va_up g 1 (pc_forgets (g 1) o))) H := hP
  have hD : va_D A (pm_W h cI f (va_up g 1 (pc_forgets (g 1) o))) := hD
  refine lv_aload_n hx hb dX4_withdraws_5 rfl (lv_at hl 0 rfl) ?_
  refine pm_callI (n := 0) [] hx hb hml hown hts hA hK (m_serves l D h cI f (va_up g 1 (pc_forgets (g 1) o)) B K N (wl.erase o) (hI.forgets o)) (lw_V q2756 q2758 qs76 q122 q2759) ⟨rfl, rfl⟩ (by decide +kernel) ⟨Nat.le_of_ble_eq_true rfl, Nat.le_of_ble_eq_true rfl⟩ hP hD hS rfl hl.1 rfl (Nat.le_of_ble_eq_true rfl) ⟨Nat.zero_le _, Nat.zero_le _⟩ dX4_withdraws_6 (fun H locs hP hD hS => ?_)
  have hP : va_P D pc_Cl (pm_W h cI f (va_up g 1 (pc_serve (pc_forgets (g 1) o) K N (wl.erase o)).2.1)) H := hP
  have hD : va_D A (pm_W h cI f (va_up g 1 (pc_serve (pc_forgets (g 1) o) K N (wl.erase o)).2.1)) := hD
  refine pn_top (y := nI (pc_serve (pc_forgets (g 1) o) K N (wl.erase o)).1) rfl ?_
  refine lv_istore_n (lv' := [(2, .int (nI (pc_serve (pc_forgets (g 1) o) K N (wl.erase o)).1)), (0, .ref (h 0)), (1, .int (nI o))]) hx hb dX4_withdraws_9 rfl hl (by decide) rfl (fun ls hl => ?_)
  refine lv_aload_n hx hb dX4_withdraws_10 rfl (lv_at hl 1 rfl) ?_
  refine pm_callI (n := 0) [] hx hb hml hown hts hA hK (m_waiting l D h cI f (va_up g 1 (pc_serve (pc_forgets (g 1) o) K N (wl.erase o)).2.1) N (hI.forgets o).serve.N0 (by first | assumption | omega | rfl)) (lw_V q2649 q2651 qs63 q122 q2652) ⟨rfl, rfl⟩ (by decide +kernel) ⟨Nat.le_of_ble_eq_true rfl, Nat.le_of_ble_eq_true rfl⟩ hP hD hS rfl hl.1 rfl (Nat.le_of_ble_eq_true rfl) ⟨Nat.zero_le _, Nat.zero_le _⟩ dX4_withdraws_11 (fun H locs hP hD hS => ?_)
  refine pn_top (y := nI (pc_waiting ((pc_serve (pc_forgets (g 1) o) K N (wl.erase o)).2.1) N)) rfl ?_
  exact pm_retI hx hb hlk hr hq hP hD hS dX4_withdraws_14 (by rfl) rfl

set_option maxHeartbeats 4000000 in
theorem m_changes (l : Launch) (D : va_G) (h : Nat → Nat) (cI : ClassId) (f : Nat → Int32) (g : Nat → Nat → Int32) (B : Nat) (K : Nat) (N : Nat) (wl : List Nat) (o : Nat) (k : Nat) (x : Int32) (hI : pc_inv B (g 1) K N wl) (ho : o < 8) (hk : k < 4) : pm_C l yX4_changes (ws_ yX4_changes cX4_changes 6 (some .int)) ({ frames := 12, cells := 0, slots := 0, locals := 272 } : Room) D h cI [.ref (h 0), .int (nI o), .int (nI k), .int (x)] f g (some (.int (pc_of (g 1) o (0 + k)))) f (va_up g 1 (pc_serve (pc_lays (g 1) o (0 + k) x) K N wl).2.1) := by
  refine pm_enter (cc := cX4_changes) (maxL := 6) (ret := (some .int)) (by decide) (Nat.le_of_ble_eq_true rfl) ?_
  intro p e s m below meth c A Qc ls hx hb hml hown hts hlk hA hK hP hD hS hr hq hl
  have hl : lv_has ls 6 [(0, .ref (h 0)), (1, .int (nI o)), (2, .int (nI k)), (3, .int (x))] := hl
  refine lv_aload_n hx hb dX4_changes_0 rfl (lv_at hl 0 rfl) ?_
  refine lv_iload_n hx hb dX4_changes_1 rfl (lv_at hl 1 rfl) ?_
  refine lv_iconst (v := nI 0) hx hb dX4_changes_2 (by decide) ?_
  refine lv_iload_n hx hb dX4_changes_3 rfl (lv_at hl 2 rfl) ?_
  refine pn_iadd hx hb dX4_changes_4 ?_
  refine pm_callI (n := 2) [] hx hb hml hown hts hA hK (m_of l D h cI f g o (0 + k) (by first | assumption | omega | rfl) (by first | assumption | omega | rfl)) (lw_V q2443 q2445 qs48 q122 q2446) ⟨rfl, rfl⟩ (by decide +kernel) ⟨Nat.le_of_ble_eq_true rfl, Nat.le_of_ble_eq_true rfl⟩ hP hD hS rfl hl.1 rfl (Nat.le_of_ble_eq_true rfl) ⟨Nat.zero_le _, Nat.zero_le _⟩ dX4_changes_5 (fun H locs hP hD hS => ?_)
  refine lv_istore (lv' := [(4, .int (pc_of (g 1) o (0 + k))), (0, .ref (h 0)), (1, .int (nI o)), (2, .int (nI k)), (3, .int (x))]) hx hb dX4_changes_8 hl (by decide) rfl (fun ls hl => ?_)
  refine lv_aload_n hx hb dX4_changes_10 rfl (lv_at hl 1 rfl) ?_
  refine lv_iload_n hx hb dX4_changes_11 rfl (lv_at hl 2 rfl) ?_
  refine lv_iconst (v := nI 0) hx hb dX4_changes_12 (by decide) ?_
  refine lv_iload_n hx hb dX4_changes_13 rfl (lv_at hl 3 rfl) ?_
  refine pn_iadd hx hb dX4_changes_14 ?_
  refine lv_iload_n hx hb dX4_changes_15 rfl (lv_at hl 4 rfl) ?_
  refine pm_callV (n := 3) [] hx hb hml hown hts hA hK (m_lays l D h cI f g o (0 + k) x (by first | assumption | omega | rfl) (by first | assumption | omega | rfl)) (lw_V q2430 q2432 qs45 q122 q2433) ⟨rfl, rfl⟩ (by decide +kernel) ⟨Nat.le_of_ble_eq_true rfl, Nat.le_of_ble_eq_true rfl⟩ hP hD hS rfl hl.1 rfl (Nat.le_of_ble_eq_true rfl) ⟨Nat.zero_le _, Nat.zero_le _⟩ dX4_changes_16 (fun H locs hP hD hS => ?_)
  have hP : va_P D pc_Cl (pm_W h cI f (va_up g 1 (pc_lays (g 1) o (0 + k) x))) H := hP
  have hD : va_D A (pm_W h cI f (va_up g 1 (pc_lays (g 1) o (0 + k) x))) := hD
  refine lv_aload_n hx hb dX4_changes_19 rfl (lv_at hl 1 rfl) ?_
  refine pm_callI (n := 0) [] hx hb hml hown hts hA hK (m_serves l D h cI f (va_up g 1 (pc_lays (g 1) o (0 + k) x)) B K N wl (hI.lays _ (by omega))) (lw_V q2756 q2758 qs76 q122 q2759) ⟨rfl, rfl⟩ (by decide +kernel) ⟨Nat.le_of_ble_eq_true rfl, Nat.le_of_ble_eq_true rfl⟩ hP hD hS rfl hl.1 rfl (Nat.le_of_ble_eq_true rfl) ⟨Nat.zero_le _, Nat.zero_le _⟩ dX4_changes_20 (fun H locs hP hD hS => ?_)
  have hP : va_P D pc_Cl (pm_W h cI f (va_up g 1 (pc_serve (pc_lays (g 1) o (0 + k) x) K N wl).2.1)) H := hP
  have hD : va_D A (pm_W h cI f (va_up g 1 (pc_serve (pc_lays (g 1) o (0 + k) x) K N wl).2.1)) := hD
  refine pn_top (y := nI (pc_serve (pc_lays (g 1) o (0 + k) x) K N wl).1) rfl ?_
  refine lv_istore (lv' := [(5, .int (nI (pc_serve (pc_lays (g 1) o (0 + k) x) K N wl).1)), (4, .int (pc_of (g 1) o (0 + k))), (0, .ref (h 0)), (1, .int (nI o)), (2, .int (nI k)), (3, .int (x))]) hx hb dX4_changes_23 hl (by decide) rfl (fun ls hl => ?_)
  refine lv_iload hx hb dX4_changes_25 (lv_at hl 1 rfl) ?_
  exact pm_retI hx hb hlk hr hq hP hD hS dX4_changes_27 rfl rfl

set_option maxHeartbeats 4000000 in
theorem m_requests (l : Launch) (D : va_G) (h : Nat → Nat) (cI : ClassId) (f : Nat → Int32) (g : Nat → Nat → Int32) (B : Nat) (K : Nat) (N : Nat) (wl : List Nat) (o : Nat) (k : Nat) (x : Int32) (hI : pc_inv B (g 1) K N wl) (ho : o < N) (hk : k < 4) : pm_C l yX4_requests (ws_ yX4_requests cX4_requests 4 (some .int)) ({ frames := 10, cells := 0, slots := 0, locals := 226 } : Room) D h cI [.ref (h 0), .int (nI o), .int (nI k), .int (x)] f g (some (.int (pc_reqv (g 1) K N o k x))) f (va_up g 1 (pc_reqr (g 1) K N o k x)) := by
  refine pm_enter (cc := cX4_requests) (maxL := 4) (ret := (some .int)) (by decide) (Nat.le_of_ble_eq_true rfl) ?_
  intro p e s m below meth c A Qc ls hx hb hml hown hts hlk hA hK hP hD hS hr hq hl
  have hl : lv_has ls 4 [(0, .ref (h 0)), (1, .int (nI o)), (2, .int (nI k)), (3, .int (x))] := hl
  have hN := hI.N0
  have hK0 := hI.K0
  have hN8 := hI.N8
  have hK4 := hI.K4
  have hN1 := hI.N1
  have hK1 := hI.K1
  have hwt := hI.waiting
  have hln := hI.len
  refine lv_aload_n hx hb dX4_requests_0 rfl (lv_at hl 0 rfl) ?_
  refine lv_iload_n hx hb dX4_requests_1 rfl (lv_at hl 1 rfl) ?_
  refine lv_iload_n hx hb dX4_requests_2 rfl (lv_at hl 2 rfl) ?_
  refine lv_iload_n hx hb dX4_requests_3 rfl (lv_at hl 3 rfl) ?_
  refine pm_callI (n := 3) [] hx hb hml hown hts hA hK (m_canGrant l D h cI f g K N o k x (by first | assumption | omega | rfl) (by first | assumption | omega | rfl) (by first | assumption | omega | rfl) (by first | assumption | omega | rfl) (by first | assumption | omega | rfl) (by first | assumption | omega | rfl)) (lw_V q2728 q2730 qs71 q122 q2731) ⟨rfl, rfl⟩ (by decide +kernel) ⟨Nat.le_of_ble_eq_true rfl, Nat.le_of_ble_eq_true rfl⟩ hP hD hS rfl hl.1 rfl (Nat.le_of_ble_eq_true rfl) ⟨Nat.zero_le _, Nat.zero_le _⟩ dX4_requests_4 (fun H locs hP hD hS => ?_)
  refine pb_if_eq (tgt := 19) hx hb dX4_requests_7 (by decide) (fun c1 => ?_) (fun c1 => ?_)
  · refine lv_aload_n hx hb dX4_requests_19 rfl (lv_at hl 0 rfl) ?_
    refine va_get (D := D) (ci := 0) (v := .ref (h 1)) (C := RX4) (T := TX4) (N := 22) hx hb hts in_X4 hown hK hP 0 rfl rfl 1 (by decide) (hts _ q2483) (fun _ h9 => h9) rfl dX4_requests_20 ?_
    refine lv_iconst (v := nI 5) hx hb dX4_requests_23 (by decide) ?_
    refine lv_dup2_11 hx hb dX4_requests_24 rfl rfl ?_
    refine pn_iald (e9 := 5) (f := g 1) hx hb hK hP 1 0 rfl rfl (by omega) (by decide) dX4_requests_25 ?_
    refine lv_iconst (v := nI 1) hx hb dX4_requests_26 (by decide) ?_
    refine lv_iadd hx hb dX4_requests_27 ?_
    refine pm_ast1 (g := g) (g2 := (va_up g 1 (upd (g 1) 5 (((g 1) 5) + (nI 1))))) (X := g 1) (e9 := 5) hx hb hK hP hD hS rfl (by omega) rfl dX4_requests_28 (fun H locs hP hD hS => ?_)
    refine lv_aload_n hx hb dX4_requests_29 rfl (lv_at hl 0 rfl) ?_
    refine va_get (D := D) (ci := 0) (v := .ref (h 1)) (C := RX4) (T := TX4) (N := 22) hx hb hts in_X4 hown hK hP 0 rfl rfl 1 (by decide) (hts _ q2483) (fun _ h9 => h9) rfl dX4_requests_30 ?_
    refine lv_bipush (v := nI 6) hx hb dX4_requests_33 (by decide) ?_
    refine lv_dup2_11 hx hb dX4_requests_35 rfl rfl ?_
    refine pn_iald (e9 := 6) (f := (upd (g 1) 5 (((g 1) 5) + (nI 1)))) hx hb hK hP 1 0 rfl rfl (by omega) (by decide) dX4_requests_36 ?_
    refine lv_aload_n hx hb dX4_requests_37 rfl (lv_at hl 0 rfl) ?_
    refine lv_iload_n hx hb dX4_requests_38 rfl (lv_at hl 2 rfl) ?_
    refine pm_callI (n := 1) [.int ((upd (g 1) 5 (((g 1) 5) + (nI 1))) 6), .int (nI 6), .ref (h 1)] hx hb hml hown hts hA hK (m_free l D h cI f (va_up g 1 (upd (g 1) 5 (((g 1) 5) + (nI 1)))) N k ((pc_upd_ne (r := g 1) (i := 5) (j := 1) (x := (g 1) 5 + nI 1) (by omega)).trans hN) (by first | assumption | omega | rfl) (by first | assumption | omega | rfl)) (lw_V q2447 q2449 qs49 q122 q2450) ⟨rfl, rfl⟩ (by decide +kernel) ⟨Nat.le_of_ble_eq_true rfl, Nat.le_of_ble_eq_true rfl⟩ hP hD hS rfl hl.1 rfl (Nat.le_of_ble_eq_true rfl) ⟨Nat.zero_le _, Nat.zero_le _⟩ dX4_requests_39 (fun H locs hP hD hS => ?_)
    refine pn_top (y := pc_free (upd (g 1) 5 (((g 1) 5) + (nI 1))) N k) rfl ?_
    refine lv_iload_n hx hb dX4_requests_42 rfl (lv_at hl 3 rfl) ?_
    refine lv_icmp_lt (tgt := 50) hx hb dX4_requests_43 (by decide) (fun c2 => ?_) (fun c2 => ?_)
    · have e43 : (!decide (pc_free (pc_plus (g 1) 5 (nI 1)) N k < x)) = false := by have q9 : pc_free (pc_plus (g 1) 5 (nI 1)) N k < x := c2; simp [q9]
      refine lv_iconst (v := nI 0) hx hb dX4_requests_50 (by decide) ?_
      refine pp_callS (n := 1) (rest := [.int ((upd (g 1) 5 (((g 1) 5) + (nI 1))) 6), .int (nI 6), .ref (h 1)]) hx hb hml hown hts (m_truth l false) (lw_S q2630 q2631 q122 q2632) ⟨rfl, rfl⟩ (by decide +kernel) ⟨Nat.le_of_ble_eq_true rfl, Nat.le_of_ble_eq_true rfl⟩ rfl hl.1 rfl (Nat.le_of_ble_eq_true rfl) dX4_requests_51 ⟨Nat.zero_le _, Nat.zero_le _⟩ ?_
      refine lv_iadd hx hb dX4_requests_54 ?_
      refine pm_ast1 (g := (va_up g 1 (upd (g 1) 5 (((g 1) 5) + (nI 1))))) (g2 := (va_up g 1 (upd (upd (g 1) 5 (((g 1) 5) + (nI 1))) 6 (((upd (g 1) 5 (((g 1) 5) + (nI 1))) 6) + (pc_b false))))) (X := (upd (g 1) 5 (((g 1) 5) + (nI 1)))) (e9 := 6) hx hb hK hP hD hS (va_up_self _ _ _) (by omega) (bx_uu _ _ _ _) dX4_requests_55 (fun H locs hP hD hS => ?_)
      refine lv_aload_n hx hb dX4_requests_56 rfl (lv_at hl 0 rfl) ?_
      refine lv_iload_n hx hb dX4_requests_57 rfl (lv_at hl 1 rfl) ?_
      refine lv_bipush (v := nI 8) hx hb dX4_requests_58 (by decide) ?_
      refine lv_iload_n hx hb dX4_requests_60 rfl (lv_at hl 2 rfl) ?_
      refine lv_iconst (v := nI 1) hx hb dX4_requests_61 (by decide) ?_
      refine pn_iadd hx hb dX4_requests_62 ?_
      refine pm_callV (n := 3) [] hx hb hml hown hts hA hK (m_lays l D h cI f (va_up g 1 (upd (upd (g 1) 5 (((g 1) 5) + (nI 1))) 6 (((upd (g 1) 5 (((g 1) 5) + (nI 1))) 6) + (pc_b false)))) o 8 (nI (k + 1)) (by first | assumption | omega | rfl) (by first | assumption | omega | rfl)) (lw_V q2430 q2432 qs45 q122 q2433) ⟨rfl, rfl⟩ (by decide +kernel) ⟨Nat.le_of_ble_eq_true rfl, Nat.le_of_ble_eq_true rfl⟩ hP hD hS rfl hl.1 rfl (Nat.le_of_ble_eq_true rfl) ⟨Nat.zero_le _, Nat.zero_le _⟩ dX4_requests_63 (fun H locs hP hD hS => ?_)
      have hP : va_P D pc_Cl (pm_W h cI f (va_up g 1 (pc_lays (upd (upd (g 1) 5 (((g 1) 5) + (nI 1))) 6 (((upd (g 1) 5 (((g 1) 5) + (nI 1))) 6) + (pc_b false))) o 8 (nI (k + 1))))) H := hP
      have hD : va_D A (pm_W h cI f (va_up g 1 (pc_lays (upd (upd (g 1) 5 (((g 1) 5) + (nI 1))) 6 (((upd (g 1) 5 (((g 1) 5) + (nI 1))) 6) + (pc_b false))) o 8 (nI (k + 1))))) := hD
      refine lv_aload_n hx hb dX4_requests_66 rfl (lv_at hl 0 rfl) ?_
      refine lv_iload_n hx hb dX4_requests_67 rfl (lv_at hl 1 rfl) ?_
      refine lv_bipush (v := nI 9) hx hb dX4_requests_68 (by decide) ?_
      refine lv_iload_n hx hb dX4_requests_70 rfl (lv_at hl 3 rfl) ?_
      refine pm_callV (n := 3) [] hx hb hml hown hts hA hK (m_lays l D h cI f (va_up g 1 (pc_lays (upd (upd (g 1) 5 (((g 1) 5) + (nI 1))) 6 (((upd (g 1) 5 (((g 1) 5) + (nI 1))) 6) + (pc_b false))) o 8 (nI (k + 1)))) o 9 x (by first | assumption | omega | rfl) (by first | assumption | omega | rfl)) (lw_V q2430 q2432 qs45 q122 q2433) ⟨rfl, rfl⟩ (by decide +kernel) ⟨Nat.le_of_ble_eq_true rfl, Nat.le_of_ble_eq_true rfl⟩ hP hD hS rfl hl.1 rfl (Nat.le_of_ble_eq_true rfl) ⟨Nat.zero_le _, Nat.zero_le _⟩ dX4_requests_71 (fun H locs hP hD hS => ?_)
      have hP : va_P D pc_Cl (pm_W h cI f (va_up g 1 (pc_lays (pc_lays (upd (upd (g 1) 5 (((g 1) 5) + (nI 1))) 6 (((upd (g 1) 5 (((g 1) 5) + (nI 1))) 6) + (pc_b false))) o 8 (nI (k + 1))) o 9 x))) H := hP
      have hD : va_D A (pm_W h cI f (va_up g 1 (pc_lays (pc_lays (upd (upd (g 1) 5 (((g 1) 5) + (nI 1))) 6 (((upd (g 1) 5 (((g 1) 5) + (nI 1))) 6) + (pc_b false))) o 8 (nI (k + 1))) o 9 x))) := hD
      refine lv_aload_n hx hb dX4_requests_74 rfl (lv_at hl 0 rfl) ?_
      refine lv_iload_n hx hb dX4_requests_75 rfl (lv_at hl 1 rfl) ?_
      refine lv_bipush (v := nI 10) hx hb dX4_requests_76 (by decide) ?_
      refine lv_aload_n hx hb dX4_requests_78 rfl (lv_at hl 0 rfl) ?_
      refine va_get (D := D) (ci := 0) (v := .ref (h 1)) (C := RX4) (T := TX4) (N := 22) hx hb hts in_X4 hown hK hP 0 rfl rfl 1 (by decide) (hts _ q2483) (fun _ h9 => h9) rfl dX4_requests_79 ?_
      refine lv_iconst (v := nI 2) hx hb dX4_requests_82 (by decide) ?_
      refine pn_iald (e9 := 2) (f := (pc_lays (pc_lays (upd (upd (g 1) 5 (((g 1) 5) + (nI 1))) 6 (((upd (g 1) 5 (((g 1) 5) + (nI 1))) 6) + (pc_b false))) o 8 (nI (k + 1))) o 9 x)) hx hb hK hP 1 0 rfl rfl (by omega) (by decide) dX4_requests_83 ?_
      refine pm_callV (n := 3) [] hx hb hml hown hts hA hK (m_lays l D h cI f (va_up g 1 (pc_lays (pc_lays (upd (upd (g 1) 5 (((g 1) 5) + (nI 1))) 6 (((upd (g 1) 5 (((g 1) 5) + (nI 1))) 6) + (pc_b false))) o 8 (nI (k + 1))) o 9 x)) o 10 ((pc_lays (pc_lays (upd (upd (g 1) 5 (((g 1) 5) + (nI 1))) 6 (((upd (g 1) 5 (((g 1) 5) + (nI 1))) 6) + (pc_b false))) o 8 (nI (k + 1))) o 9 x) 2) (by first | assumption | omega | rfl) (by first | assumption | omega | rfl)) (lw_V q2430 q2432 qs45 q122 q2433) ⟨rfl, rfl⟩ (by decide +kernel) ⟨Nat.le_of_ble_eq_true rfl, Nat.le_of_ble_eq_true rfl⟩ hP hD hS rfl hl.1 rfl (Nat.le_of_ble_eq_true rfl) ⟨Nat.zero_le _, Nat.zero_le _⟩ dX4_requests_84 (fun H locs hP hD hS => ?_)
      have hP : va_P D pc_Cl (pm_W h cI f (va_up g 1 (pc_lays (pc_lays (pc_lays (upd (upd (g 1) 5 (((g 1) 5) + (nI 1))) 6 (((upd (g 1) 5 (((g 1) 5) + (nI 1))) 6) + (pc_b false))) o 8 (nI (k + 1))) o 9 x) o 10 ((pc_lays (pc_lays (upd (upd (g 1) 5 (((g 1) 5) + (nI 1))) 6 (((upd (g 1) 5 (((g 1) 5) + (nI 1))) 6) + (pc_b false))) o 8 (nI (k + 1))) o 9 x) 2)))) H := hP
      have hD : va_D A (pm_W h cI f (va_up g 1 (pc_lays (pc_lays (pc_lays (upd (upd (g 1) 5 (((g 1) 5) + (nI 1))) 6 (((upd (g 1) 5 (((g 1) 5) + (nI 1))) 6) + (pc_b false))) o 8 (nI (k + 1))) o 9 x) o 10 ((pc_lays (pc_lays (upd (upd (g 1) 5 (((g 1) 5) + (nI 1))) 6 (((upd (g 1) 5 (((g 1) 5) + (nI 1))) 6) + (pc_b false))) o 8 (nI (k + 1))) o 9 x) 2)))) := hD
      refine lv_aload_n hx hb dX4_requests_87 rfl (lv_at hl 0 rfl) ?_
      refine va_get (D := D) (ci := 0) (v := .ref (h 1)) (C := RX4) (T := TX4) (N := 22) hx hb hts in_X4 hown hK hP 0 rfl rfl 1 (by decide) (hts _ q2483) (fun _ h9 => h9) rfl dX4_requests_88 ?_
      refine lv_iconst (v := nI 2) hx hb dX4_requests_91 (by decide) ?_
      refine lv_dup2_11 hx hb dX4_requests_92 rfl rfl ?_
      refine pn_iald (e9 := 2) (f := (pc_lays (pc_lays (pc_lays (upd (upd (g 1) 5 (((g 1) 5) + (nI 1))) 6 (((upd (g 1) 5 (((g 1) 5) + (nI 1))) 6) + (pc_b false))) o 8 (nI (k + 1))) o 9 x) o 10 ((pc_lays (pc_lays (upd (upd (g 1) 5 (((g 1) 5) + (nI 1))) 6 (((upd (g 1) 5 (((g 1) 5) + (nI 1))) 6) + (pc_b false))) o 8 (nI (k + 1))) o 9 x) 2))) hx hb hK hP 1 0 rfl rfl (by omega) (by decide) dX4_requests_93 ?_
      refine lv_iconst (v := nI 1) hx hb dX4_requests_94 (by decide) ?_
      refine lv_iadd hx hb dX4_requests_95 ?_
      refine pm_ast1 (g := (va_up g 1 (pc_lays (pc_lays (pc_lays (upd (upd (g 1) 5 (((g 1) 5) + (nI 1))) 6 (((upd (g 1) 5 (((g 1) 5) + (nI 1))) 6) + (pc_b false))) o 8 (nI (k + 1))) o 9 x) o 10 ((pc_lays (pc_lays (upd (upd (g 1) 5 (((g 1) 5) + (nI 1))) 6 (((upd (g 1) 5 (((g 1) 5) + (nI 1))) 6) + (pc_b false))) o 8 (nI (k + 1))) o 9 x) 2)))) (g2 := (va_up g 1 (upd (pc_lays (pc_lays (pc_lays (upd (upd (g 1) 5 (((g 1) 5) + (nI 1))) 6 (((upd (g 1) 5 (((g 1) 5) + (nI 1))) 6) + (pc_b false))) o 8 (nI (k + 1))) o 9 x) o 10 ((pc_lays (pc_lays (upd (upd (g 1) 5 (((g 1) 5) + (nI 1))) 6 (((upd (g 1) 5 (((g 1) 5) + (nI 1))) 6) + (pc_b false))) o 8 (nI (k + 1))) o 9 x) 2)) 2 (((pc_lays (pc_lays (pc_lays (upd (upd (g 1) 5 (((g 1) 5) + (nI 1))) 6 (((upd (g 1) 5 (((g 1) 5) + (nI 1))) 6) + (pc_b false))) o 8 (nI (k + 1))) o 9 x) o 10 ((pc_lays (pc_lays (upd (upd (g 1) 5 (((g 1) 5) + (nI 1))) 6 (((upd (g 1) 5 (((g 1) 5) + (nI 1))) 6) + (pc_b false))) o 8 (nI (k + 1))) o 9 x) 2)) 2) + (nI 1))))) (X := (pc_lays (pc_lays (pc_lays (upd (upd (g 1) 5 (((g 1) 5) + (nI 1))) 6 (((upd (g 1) 5 (((g 1) 5) + (nI 1))) 6) + (pc_b false))) o 8 (nI (k + 1))) o 9 x) o 10 ((pc_lays (pc_lays (upd (upd (g 1) 5 (((g 1) 5) + (nI 1))) 6 (((upd (g 1) 5 (((g 1) 5) + (nI 1))) 6) + (pc_b false))) o 8 (nI (k + 1))) o 9 x) 2))) (e9 := 2) hx hb hK hP hD hS (va_up_self _ _ _) (by omega) (bx_uu _ _ _ _) dX4_requests_96 (fun H locs hP hD hS => ?_)
      refine lv_aload_n hx hb dX4_requests_97 rfl (lv_at hl 0 rfl) ?_
      refine pm_callI (n := 0) [] hx hb hml hown hts hA hK (m_waiting l D h cI f (va_up g 1 (upd (pc_lays (pc_lays (pc_lays (upd (upd (g 1) 5 (((g 1) 5) + (nI 1))) 6 (((upd (g 1) 5 (((g 1) 5) + (nI 1))) 6) + (pc_b false))) o 8 (nI (k + 1))) o 9 x) o 10 ((pc_lays (pc_lays (upd (upd (g 1) 5 (((g 1) 5) + (nI 1))) 6 (((upd (g 1) 5 (((g 1) 5) + (nI 1))) 6) + (pc_b false))) o 8 (nI (k + 1))) o 9 x) 2)) 2 (((pc_lays (pc_lays (pc_lays (upd (upd (g 1) 5 (((g 1) 5) + (nI 1))) 6 (((upd (g 1) 5 (((g 1) 5) + (nI 1))) 6) + (pc_b false))) o 8 (nI (k + 1))) o 9 x) o 10 ((pc_lays (pc_lays (upd (upd (g 1) 5 (((g 1) 5) + (nI 1))) 6 (((upd (g 1) 5 (((g 1) 5) + (nI 1))) 6) + (pc_b false))) o 8 (nI (k + 1))) o 9 x) 2)) 2) + (nI 1)))) N (pc_wish1 (r := g 1) (o := o) (k := k) (x := x) hN) (by first | assumption | omega | rfl)) (lw_V q2649 q2651 qs63 q122 q2652) ⟨rfl, rfl⟩ (by decide +kernel) ⟨Nat.le_of_ble_eq_true rfl, Nat.le_of_ble_eq_true rfl⟩ hP hD hS rfl hl.1 rfl (Nat.le_of_ble_eq_true rfl) ⟨Nat.zero_le _, Nat.zero_le _⟩ dX4_requests_98 (fun H locs hP hD hS => ?_)
      refine pn_top (y := nI (pc_waiting (upd (pc_lays (pc_lays (pc_lays (upd (upd (g 1) 5 (((g 1) 5) + (nI 1))) 6 (((upd (g 1) 5 (((g 1) 5) + (nI 1))) 6) + (pc_b false))) o 8 (nI (k + 1))) o 9 x) o 10 ((pc_lays (pc_lays (upd (upd (g 1) 5 (((g 1) 5) + (nI 1))) 6 (((upd (g 1) 5 (((g 1) 5) + (nI 1))) 6) + (pc_b false))) o 8 (nI (k + 1))) o 9 x) 2)) 2 (((pc_lays (pc_lays (pc_lays (upd (upd (g 1) 5 (((g 1) 5) + (nI 1))) 6 (((upd (g 1) 5 (((g 1) 5) + (nI 1))) 6) + (pc_b false))) o 8 (nI (k + 1))) o 9 x) o 10 ((pc_lays (pc_lays (upd (upd (g 1) 5 (((g 1) 5) + (nI 1))) 6 (((upd (g 1) 5 (((g 1) 5) + (nI 1))) 6) + (pc_b false))) o 8 (nI (k + 1))) o 9 x) 2)) 2) + (nI 1))) N)) rfl ?_
      exact pm_retI hx hb hlk hr hq hP hD hS dX4_requests_101 (by rw [pc_reqv, if_neg (by simp [c1]), pc_delays, e43]; rfl) (by rw [pc_reqr, if_neg (by simp [c1]), pc_delays, e43]; rfl)
    · have e43 : (!decide (pc_free (pc_plus (g 1) 5 (nI 1)) N k < x)) = true := by have q9 : ¬ pc_free (pc_plus (g 1) 5 (nI 1)) N k < x := c2; simp [q9]
      refine lv_iconst (v := nI 1) hx hb dX4_requests_46 (by decide) ?_
      refine lv_goto (tgt := 51) hx hb dX4_requests_47 (by decide) ?_
      refine pp_callS (n := 1) (rest := [.int ((upd (g 1) 5 (((g 1) 5) + (nI 1))) 6), .int (nI 6), .ref (h 1)]) hx hb hml hown hts (m_truth l true) (lw_S q2630 q2631 q122 q2632) ⟨rfl, rfl⟩ (by decide +kernel) ⟨Nat.le_of_ble_eq_true rfl, Nat.le_of_ble_eq_true rfl⟩ rfl hl.1 rfl (Nat.le_of_ble_eq_true rfl) dX4_requests_51 ⟨Nat.zero_le _, Nat.zero_le _⟩ ?_
      refine lv_iadd hx hb dX4_requests_54 ?_
      refine pm_ast1 (g := (va_up g 1 (upd (g 1) 5 (((g 1) 5) + (nI 1))))) (g2 := (va_up g 1 (upd (upd (g 1) 5 (((g 1) 5) + (nI 1))) 6 (((upd (g 1) 5 (((g 1) 5) + (nI 1))) 6) + (pc_b true))))) (X := (upd (g 1) 5 (((g 1) 5) + (nI 1)))) (e9 := 6) hx hb hK hP hD hS (va_up_self _ _ _) (by omega) (bx_uu _ _ _ _) dX4_requests_55 (fun H locs hP hD hS => ?_)
      refine lv_aload_n hx hb dX4_requests_56 rfl (lv_at hl 0 rfl) ?_
      refine lv_iload_n hx hb dX4_requests_57 rfl (lv_at hl 1 rfl) ?_
      refine lv_bipush (v := nI 8) hx hb dX4_requests_58 (by decide) ?_
      refine lv_iload_n hx hb dX4_requests_60 rfl (lv_at hl 2 rfl) ?_
      refine lv_iconst (v := nI 1) hx hb dX4_requests_61 (by decide) ?_
      refine pn_iadd hx hb dX4_requests_62 ?_
      refine pm_callV (n := 3) [] hx hb hml hown hts hA hK (m_lays l D h cI f (va_up g 1 (upd (upd (g 1) 5 (((g 1) 5) + (nI 1))) 6 (((upd (g 1) 5 (((g 1) 5) + (nI 1))) 6) + (pc_b true)))) o 8 (nI (k + 1)) (by first | assumption | omega | rfl) (by first | assumption | omega | rfl)) (lw_V q2430 q2432 qs45 q122 q2433) ⟨rfl, rfl⟩ (by decide +kernel) ⟨Nat.le_of_ble_eq_true rfl, Nat.le_of_ble_eq_true rfl⟩ hP hD hS rfl hl.1 rfl (Nat.le_of_ble_eq_true rfl) ⟨Nat.zero_le _, Nat.zero_le _⟩ dX4_requests_63 (fun H locs hP hD hS => ?_)
      have hP : va_P D pc_Cl (pm_W h cI f (va_up g 1 (pc_lays (upd (upd (g 1) 5 (((g 1) 5) + (nI 1))) 6 (((upd (g 1) 5 (((g 1) 5) + (nI 1))) 6) + (pc_b true))) o 8 (nI (k + 1))))) H := hP
      have hD : va_D A (pm_W h cI f (va_up g 1 (pc_lays (upd (upd (g 1) 5 (((g 1) 5) + (nI 1))) 6 (((upd (g 1) 5 (((g 1) 5) + (nI 1))) 6) + (pc_b true))) o 8 (nI (k + 1))))) := hD
      refine lv_aload_n hx hb dX4_requests_66 rfl (lv_at hl 0 rfl) ?_
      refine lv_iload_n hx hb dX4_requests_67 rfl (lv_at hl 1 rfl) ?_
      refine lv_bipush (v := nI 9) hx hb dX4_requests_68 (by decide) ?_
      refine lv_iload_n hx hb dX4_requests_70 rfl (lv_at hl 3 rfl) ?_
      refine pm_callV (n := 3) [] hx hb hml hown hts hA hK (m_lays l D h cI f (va_up g 1 (pc_lays (upd (upd (g 1) 5 (((g 1) 5) + (nI 1))) 6 (((upd (g 1) 5 (((g 1) 5) + (nI 1))) 6) + (pc_b true))) o 8 (nI (k + 1)))) o 9 x (by first | assumption | omega | rfl) (by first | assumption | omega | rfl)) (lw_V q2430 q2432 qs45 q122 q2433) ⟨rfl, rfl⟩ (by decide +kernel) ⟨Nat.le_of_ble_eq_true rfl, Nat.le_of_ble_eq_true rfl⟩ hP hD hS rfl hl.1 rfl (Nat.le_of_ble_eq_true rfl) ⟨Nat.zero_le _, Nat.zero_le _⟩ dX4_requests_71 (fun H locs hP hD hS => ?_)
      have hP : va_P D pc_Cl (pm_W h cI f (va_up g 1 (pc_lays (pc_lays (upd (upd (g 1) 5 (((g 1) 5) + (nI 1))) 6 (((upd (g 1) 5 (((g 1) 5) + (nI 1))) 6) + (pc_b true))) o 8 (nI (k + 1))) o 9 x))) H := hP
      have hD : va_D A (pm_W h cI f (va_up g 1 (pc_lays (pc_lays (upd (upd (g 1) 5 (((g 1) 5) + (nI 1))) 6 (((upd (g 1) 5 (((g 1) 5) + (nI 1))) 6) + (pc_b true))) o 8 (nI (k + 1))) o 9 x))) := hD
      refine lv_aload_n hx hb dX4_requests_74 rfl (lv_at hl 0 rfl) ?_
      refine lv_iload_n hx hb dX4_requests_75 rfl (lv_at hl 1 rfl) ?_
      refine lv_bipush (v := nI 10) hx hb dX4_requests_76 (by decide) ?_
      refine lv_aload_n hx hb dX4_requests_78 rfl (lv_at hl 0 rfl) ?_
      refine va_get (D := D) (ci := 0) (v := .ref (h 1)) (C := RX4) (T := TX4) (N := 22) hx hb hts in_X4 hown hK hP 0 rfl rfl 1 (by decide) (hts _ q2483) (fun _ h9 => h9) rfl dX4_requests_79 ?_
      refine lv_iconst (v := nI 2) hx hb dX4_requests_82 (by decide) ?_
      refine pn_iald (e9 := 2) (f := (pc_lays (pc_lays (upd (upd (g 1) 5 (((g 1) 5) + (nI 1))) 6 (((upd (g 1) 5 (((g 1) 5) + (nI 1))) 6) + (pc_b true))) o 8 (nI (k + 1))) o 9 x)) hx hb hK hP 1 0 rfl rfl (by omega) (by decide) dX4_requests_83 ?_
      refine pm_callV (n := 3) [] hx hb hml hown hts hA hK (m_lays l D h cI f (va_up g 1 (pc_lays (pc_lays (upd (upd (g 1) 5 (((g 1) 5) + (nI 1))) 6 (((upd (g 1) 5 (((g 1) 5) + (nI 1))) 6) + (pc_b true))) o 8 (nI (k + 1))) o 9 x)) o 10 ((pc_lays (pc_lays (upd (upd (g 1) 5 (((g 1) 5) + (nI 1))) 6 (((upd (g 1) 5 (((g 1) 5) + (nI 1))) 6) + (pc_b true))) o 8 (nI (k + 1))) o 9 x) 2) (by first | assumption | omega | rfl) (by first | assumption | omega | rfl)) (lw_V q2430 q2432 qs45 q122 q2433) ⟨rfl, rfl⟩ (by decide +kernel) ⟨Nat.le_of_ble_eq_true rfl, Nat.le_of_ble_eq_true rfl⟩ hP hD hS rfl hl.1 rfl (Nat.le_of_ble_eq_true rfl) ⟨Nat.zero_le _, Nat.zero_le _⟩ dX4_requests_84 (fun H locs hP hD hS => ?_)
      have hP : va_P D pc_Cl (pm_W h cI f (va_up g 1 (pc_lays (pc_lays (pc_lays (upd (upd (g 1) 5 (((g 1) 5) + (nI 1))) 6 (((upd (g 1) 5 (((g 1) 5) + (nI 1))) 6) + (pc_b true))) o 8 (nI (k + 1))) o 9 x) o 10 ((pc_lays (pc_lays (upd (upd (g 1) 5 (((g 1) 5) + (nI 1))) 6 (((upd (g 1) 5 (((g 1) 5) + (nI 1))) 6) + (pc_b true))) o 8 (nI (k + 1))) o 9 x) 2)))) H := hP
      have hD : va_D A (pm_W h cI f (va_up g 1 (pc_lays (pc_lays (pc_lays (upd (upd (g 1) 5 (((g 1) 5) + (nI 1))) 6 (((upd (g 1) 5 (((g 1) 5) + (nI 1))) 6) + (pc_b true))) o 8 (nI (k + 1))) o 9 x) o 10 ((pc_lays (pc_lays (upd (upd (g 1) 5 (((g 1) 5) + (nI 1))) 6 (((upd (g 1) 5 (((g 1) 5) + (nI 1))) 6) + (pc_b true))) o 8 (nI (k + 1))) o 9 x) 2)))) := hD
      refine lv_aload_n hx hb dX4_requests_87 rfl (lv_at hl 0 rfl) ?_
      refine va_get (D := D) (ci := 0) (v := .ref (h 1)) (C := RX4) (T := TX4) (N := 22) hx hb hts in_X4 hown hK hP 0 rfl rfl 1 (by decide) (hts _ q2483) (fun _ h9 => h9) rfl dX4_requests_88 ?_
      refine lv_iconst (v := nI 2) hx hb dX4_requests_91 (by decide) ?_
      refine lv_dup2_11 hx hb dX4_requests_92 rfl rfl ?_
      refine pn_iald (e9 := 2) (f := (pc_lays (pc_lays (pc_lays (upd (upd (g 1) 5 (((g 1) 5) + (nI 1))) 6 (((upd (g 1) 5 (((g 1) 5) + (nI 1))) 6) + (pc_b true))) o 8 (nI (k + 1))) o 9 x) o 10 ((pc_lays (pc_lays (upd (upd (g 1) 5 (((g 1) 5) + (nI 1))) 6 (((upd (g 1) 5 (((g 1) 5) + (nI 1))) 6) + (pc_b true))) o 8 (nI (k + 1))) o 9 x) 2))) hx hb hK hP 1 0 rfl rfl (by omega) (by decide) dX4_requests_93 ?_
      refine lv_iconst (v := nI 1) hx hb dX4_requests_94 (by decide) ?_
      refine lv_iadd hx hb dX4_requests_95 ?_
      refine pm_ast1 (g := (va_up g 1 (pc_lays (pc_lays (pc_lays (upd (upd (g 1) 5 (((g 1) 5) + (nI 1))) 6 (((upd (g 1) 5 (((g 1) 5) + (nI 1))) 6) + (pc_b true))) o 8 (nI (k + 1))) o 9 x) o 10 ((pc_lays (pc_lays (upd (upd (g 1) 5 (((g 1) 5) + (nI 1))) 6 (((upd (g 1) 5 (((g 1) 5) + (nI 1))) 6) + (pc_b true))) o 8 (nI (k + 1))) o 9 x) 2)))) (g2 := (va_up g 1 (upd (pc_lays (pc_lays (pc_lays (upd (upd (g 1) 5 (((g 1) 5) + (nI 1))) 6 (((upd (g 1) 5 (((g 1) 5) + (nI 1))) 6) + (pc_b true))) o 8 (nI (k + 1))) o 9 x) o 10 ((pc_lays (pc_lays (upd (upd (g 1) 5 (((g 1) 5) + (nI 1))) 6 (((upd (g 1) 5 (((g 1) 5) + (nI 1))) 6) + (pc_b true))) o 8 (nI (k + 1))) o 9 x) 2)) 2 (((pc_lays (pc_lays (pc_lays (upd (upd (g 1) 5 (((g 1) 5) + (nI 1))) 6 (((upd (g 1) 5 (((g 1) 5) + (nI 1))) 6) + (pc_b true))) o 8 (nI (k + 1))) o 9 x) o 10 ((pc_lays (pc_lays (upd (upd (g 1) 5 (((g 1) 5) + (nI 1))) 6 (((upd (g 1) 5 (((g 1) 5) + (nI 1))) 6) + (pc_b true))) o 8 (nI (k + 1))) o 9 x) 2)) 2) + (nI 1))))) (X := (pc_lays (pc_lays (pc_lays (upd (upd (g 1) 5 (((g 1) 5) + (nI 1))) 6 (((upd (g 1) 5 (((g 1) 5) + (nI 1))) 6) + (pc_b true))) o 8 (nI (k + 1))) o 9 x) o 10 ((pc_lays (pc_lays (upd (upd (g 1) 5 (((g 1) 5) + (nI 1))) 6 (((upd (g 1) 5 (((g 1) 5) + (nI 1))) 6) + (pc_b true))) o 8 (nI (k + 1))) o 9 x) 2))) (e9 := 2) hx hb hK hP hD hS (va_up_self _ _ _) (by omega) (bx_uu _ _ _ _) dX4_requests_96 (fun H locs hP hD hS => ?_)
      refine lv_aload_n hx hb dX4_requests_97 rfl (lv_at hl 0 rfl) ?_
      refine pm_callI (n := 0) [] hx hb hml hown hts hA hK (m_waiting l D h cI f (va_up g 1 (upd (pc_lays (pc_lays (pc_lays (upd (upd (g 1) 5 (((g 1) 5) + (nI 1))) 6 (((upd (g 1) 5 (((g 1) 5) + (nI 1))) 6) + (pc_b true))) o 8 (nI (k + 1))) o 9 x) o 10 ((pc_lays (pc_lays (upd (upd (g 1) 5 (((g 1) 5) + (nI 1))) 6 (((upd (g 1) 5 (((g 1) 5) + (nI 1))) 6) + (pc_b true))) o 8 (nI (k + 1))) o 9 x) 2)) 2 (((pc_lays (pc_lays (pc_lays (upd (upd (g 1) 5 (((g 1) 5) + (nI 1))) 6 (((upd (g 1) 5 (((g 1) 5) + (nI 1))) 6) + (pc_b true))) o 8 (nI (k + 1))) o 9 x) o 10 ((pc_lays (pc_lays (upd (upd (g 1) 5 (((g 1) 5) + (nI 1))) 6 (((upd (g 1) 5 (((g 1) 5) + (nI 1))) 6) + (pc_b true))) o 8 (nI (k + 1))) o 9 x) 2)) 2) + (nI 1)))) N (pc_wish1 (r := g 1) (o := o) (k := k) (x := x) hN) (by first | assumption | omega | rfl)) (lw_V q2649 q2651 qs63 q122 q2652) ⟨rfl, rfl⟩ (by decide +kernel) ⟨Nat.le_of_ble_eq_true rfl, Nat.le_of_ble_eq_true rfl⟩ hP hD hS rfl hl.1 rfl (Nat.le_of_ble_eq_true rfl) ⟨Nat.zero_le _, Nat.zero_le _⟩ dX4_requests_98 (fun H locs hP hD hS => ?_)
      refine pn_top (y := nI (pc_waiting (upd (pc_lays (pc_lays (pc_lays (upd (upd (g 1) 5 (((g 1) 5) + (nI 1))) 6 (((upd (g 1) 5 (((g 1) 5) + (nI 1))) 6) + (pc_b true))) o 8 (nI (k + 1))) o 9 x) o 10 ((pc_lays (pc_lays (upd (upd (g 1) 5 (((g 1) 5) + (nI 1))) 6 (((upd (g 1) 5 (((g 1) 5) + (nI 1))) 6) + (pc_b true))) o 8 (nI (k + 1))) o 9 x) 2)) 2 (((pc_lays (pc_lays (pc_lays (upd (upd (g 1) 5 (((g 1) 5) + (nI 1))) 6 (((upd (g 1) 5 (((g 1) 5) + (nI 1))) 6) + (pc_b true))) o 8 (nI (k + 1))) o 9 x) o 10 ((pc_lays (pc_lays (upd (upd (g 1) 5 (((g 1) 5) + (nI 1))) 6 (((upd (g 1) 5 (((g 1) 5) + (nI 1))) 6) + (pc_b true))) o 8 (nI (k + 1))) o 9 x) 2)) 2) + (nI 1))) N)) rfl ?_
      exact pm_retI hx hb hlk hr hq hP hD hS dX4_requests_101 (by rw [pc_reqv, if_neg (by simp [c1]), pc_delays, e43]; rfl) (by rw [pc_reqr, if_neg (by simp [c1]), pc_delays, e43]; rfl)
  · refine lv_aload_n hx hb dX4_requests_10 rfl (lv_at hl 0 rfl) ?_
    refine lv_iload_n hx hb dX4_requests_11 rfl (lv_at hl 1 rfl) ?_
    refine lv_iload_n hx hb dX4_requests_12 rfl (lv_at hl 2 rfl) ?_
    refine lv_iload_n hx hb dX4_requests_13 rfl (lv_at hl 3 rfl) ?_
    refine pm_callV (n := 3) [] hx hb hml hown hts hA hK (m_grants l D h cI f g o k x (by first | assumption | omega | rfl) (by first | assumption | omega | rfl)) (lw_V q2764 q2766 qs78 q122 q2767) ⟨rfl, rfl⟩ (by decide +kernel) ⟨Nat.le_of_ble_eq_true rfl, Nat.le_of_ble_eq_true rfl⟩ hP hD hS rfl hl.1 rfl (Nat.le_of_ble_eq_true rfl) ⟨Nat.zero_le _, Nat.zero_le _⟩ dX4_requests_14 (fun H locs hP hD hS => ?_)
    have hP : va_P D pc_Cl (pm_W h cI f (va_up g 1 (pc_grants (g 1) o k x))) H := hP
    have hD : va_D A (pm_W h cI f (va_up g 1 (pc_grants (g 1) o k x))) := hD
    refine lv_iconst (v := nI 0) hx hb dX4_requests_17 (by decide) ?_
    exact pm_retI hx hb hlk hr hq hP hD hS dX4_requests_18 (by rw [pc_reqv, if_pos c1]) (by rw [pc_reqr, if_pos c1])
