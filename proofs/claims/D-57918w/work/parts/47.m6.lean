/-! THE REFERENCE 6: bytes, output, tokens -/
set_option maxRecDepth 100000
set_option maxHeartbeats 4000000 in
theorem m_bytes (l : Launch) (D : va_G) (h : Nat → Nat) (cI : ClassId) (f : Nat → Int32) (g : Nat → Nat → Int32) (b : Nat) (v : Int32) (hb4 : f 10 = nI b) (hb5 : b + 4 ≤ 500) : pm_C l yX4_bytes (ws_ yX4_bytes cX4_bytes 3 none) ({ frames := 0, cells := 0, slots := 0, locals := 0 } : Room) D h cI [.ref (h 0), .int (v)] f g none (va_up f 10 (nI (b + 4))) (va_up g 9 (pc_put4 (g 9) b v)) := by
  refine pm_enter (cc := cX4_bytes) (maxL := 3) (ret := none) (by decide) (Nat.le_of_ble_eq_true rfl) ?_
  intro p e s m below meth c A Qc ls hx hb hml hown hts hlk hA hK hP hD hS hr hq hl
  have hl : lv_has ls 3 [(0, .ref (h 0)), (1, .int (v))] := hl
  refine lv_bipush (v := nI 24) hx hb dX4_bytes_0 (by decide) ?_
  refine lv_istore_n (lv' := [(2, .int (nI 24)), (0, .ref (h 0)), (1, .int (v))]) hx hb dX4_bytes_2 rfl hl (by decide) rfl (fun ls hl => ?_)
  refine lv_iload_n hx hb dX4_bytes_3 rfl (lv_at hl 0 rfl) ?_
  refine pn_if_lt (tgt := 39) hx hb (by omega) dX4_bytes_4 (by decide) ?_
  refine lv_aload_n hx hb dX4_bytes_7 rfl (lv_at hl 1 rfl) ?_
  refine va_get (D := D) (ci := 0) (v := .ref (h 9)) (C := RX4) (T := TX4) (N := 22) hx hb hts in_X4 hown hK hP 0 rfl rfl 9 (by decide) (hts _ q2491) (fun _ h9 => h9) rfl dX4_bytes_8 ?_
  refine lv_aload_n hx hb dX4_bytes_11 rfl (lv_at hl 1 rfl) ?_
  refine va_get (D := D) (ci := 0) (v := .int (f 10)) (C := RX4) (T := TX4) (N := 22) hx hb hts in_X4 hown hK hP 0 rfl rfl 10 (by decide) (hts _ q2492) (fun _ h9 => h9) rfl dX4_bytes_12 ?_
  refine pn_top hb4 ?_
  refine lv_iload_n hx hb dX4_bytes_15 rfl (lv_at hl 2 rfl) ?_
  refine lv_iload_n hx hb dX4_bytes_16 rfl (lv_at hl 0 rfl) ?_
  refine lv_ishr hx hb dX4_bytes_17 ?_
  refine lv_sipush (v := nI 255) hx hb dX4_bytes_18 (by decide +kernel) ?_
  refine lv_iand hx hb dX4_bytes_21 ?_
  refine pm_ast9 (g := g) (g2 := (va_up g 9 (upd (g 9) b ((v >>> ((nI 24) &&& 31)) &&& (nI 255))))) (X := g 9) (e9 := b) hx hb hK hP hD hS rfl (by omega) rfl dX4_bytes_22 (fun H locs hP hD hS => ?_)
  refine lv_aload_n hx hb dX4_bytes_23 rfl (lv_at hl 1 rfl) ?_
  refine lv_dup hx hb dX4_bytes_24 rfl ?_
  refine va_get (D := D) (ci := 0) (v := .int (f 10)) (C := RX4) (T := TX4) (N := 22) hx hb hts in_X4 hown hK hP 0 rfl rfl 10 (by decide) (hts _ q2492) (fun _ h9 => h9) rfl dX4_bytes_25 ?_
  refine pn_top hb4 ?_
  refine lv_iconst (v := nI 1) hx hb dX4_bytes_28 (by decide) ?_
  refine pn_iadd hx hb dX4_bytes_29 ?_
  refine pm_put10 (f := f) (f2 := (va_up f 10 (nI (b + 1)))) hx hb hts hown hK hP hD hS (hts _ q2492) rfl dX4_bytes_30 (fun H locs hP hD hS => ?_)
  refine lv_iinc (v := nI 16) (lv' := [(2, .int (nI 16)), (0, .ref (h 0)), (1, .int (v))]) hx hb dX4_bytes_33 hl (k := 0) rfl (by decide +kernel) (by decide) rfl (fun ls hl => ?_)
  refine lv_goto (tgt := 3) hx hb dX4_bytes_36 (by decide) ?_
  refine lv_iload_n hx hb dX4_bytes_3 rfl (lv_at hl 0 rfl) ?_
  refine pn_if_lt (tgt := 39) hx hb (by omega) dX4_bytes_4 (by decide) ?_
  refine lv_aload_n hx hb dX4_bytes_7 rfl (lv_at hl 1 rfl) ?_
  refine va_get (D := D) (ci := 0) (v := .ref (h 9)) (C := RX4) (T := TX4) (N := 22) hx hb hts in_X4 hown hK hP 0 rfl rfl 9 (by decide) (hts _ q2491) (fun _ h9 => h9) rfl dX4_bytes_8 ?_
  refine lv_aload_n hx hb dX4_bytes_11 rfl (lv_at hl 1 rfl) ?_
  refine va_get (D := D) (ci := 0) (v := .int (nI (b + 1))) (C := RX4) (T := TX4) (N := 22) hx hb hts in_X4 hown hK hP 0 rfl rfl 10 (by decide) (hts _ q2492) (fun _ h9 => h9) rfl dX4_bytes_12 ?_
  refine lv_iload_n hx hb dX4_bytes_15 rfl (lv_at hl 2 rfl) ?_
  refine lv_iload_n hx hb dX4_bytes_16 rfl (lv_at hl 0 rfl) ?_
  refine lv_ishr hx hb dX4_bytes_17 ?_
  refine lv_sipush (v := nI 255) hx hb dX4_bytes_18 (by decide +kernel) ?_
  refine lv_iand hx hb dX4_bytes_21 ?_
  refine pm_ast9 (g := (va_up g 9 (upd (g 9) b ((v >>> ((nI 24) &&& 31)) &&& (nI 255))))) (g2 := (va_up g 9 (upd (upd (g 9) b ((v >>> ((nI 24) &&& 31)) &&& (nI 255))) (b + 1) ((v >>> ((nI 16) &&& 31)) &&& (nI 255))))) (X := (upd (g 9) b ((v >>> ((nI 24) &&& 31)) &&& (nI 255)))) (e9 := b + 1) hx hb hK hP hD hS (va_up_self _ _ _) (by omega) (bx_uu _ _ _ _) dX4_bytes_22 (fun H locs hP hD hS => ?_)
  refine lv_aload_n hx hb dX4_bytes_23 rfl (lv_at hl 1 rfl) ?_
  refine lv_dup hx hb dX4_bytes_24 rfl ?_
  refine va_get (D := D) (ci := 0) (v := .int (nI (b + 1))) (C := RX4) (T := TX4) (N := 22) hx hb hts in_X4 hown hK hP 0 rfl rfl 10 (by decide) (hts _ q2492) (fun _ h9 => h9) rfl dX4_bytes_25 ?_
  refine lv_iconst (v := nI 1) hx hb dX4_bytes_28 (by decide) ?_
  refine pn_iadd hx hb dX4_bytes_29 ?_
  refine pm_put10 (f := (va_up f 10 (nI (b + 1)))) (f2 := (va_up f 10 (nI (b + 1 + 1)))) hx hb hts hown hK hP hD hS (hts _ q2492) (bx_uu _ _ _ _) dX4_bytes_30 (fun H locs hP hD hS => ?_)
  refine lv_iinc (v := nI 8) (lv' := [(2, .int (nI 8)), (0, .ref (h 0)), (1, .int (v))]) hx hb dX4_bytes_33 hl (k := 0) rfl (by decide +kernel) (by decide) rfl (fun ls hl => ?_)
  refine lv_goto (tgt := 3) hx hb dX4_bytes_36 (by decide) ?_
  refine lv_iload_n hx hb dX4_bytes_3 rfl (lv_at hl 0 rfl) ?_
  refine pn_if_lt (tgt := 39) hx hb (by omega) dX4_bytes_4 (by decide) ?_
  refine lv_aload_n hx hb dX4_bytes_7 rfl (lv_at hl 1 rfl) ?_
  refine va_get (D := D) (ci := 0) (v := .ref (h 9)) (C := RX4) (T := TX4) (N := 22) hx hb hts in_X4 hown hK hP 0 rfl rfl 9 (by decide) (hts _ q2491) (fun _ h9 => h9) rfl dX4_bytes_8 ?_
  refine lv_aload_n hx hb dX4_bytes_11 rfl (lv_at hl 1 rfl) ?_
  refine va_get (D := D) (ci := 0) (v := .int (nI (b + 1 + 1))) (C := RX4) (T := TX4) (N := 22) hx hb hts in_X4 hown hK hP 0 rfl rfl 10 (by decide) (hts _ q2492) (fun _ h9 => h9) rfl dX4_bytes_12 ?_
  refine lv_iload_n hx hb dX4_bytes_15 rfl (lv_at hl 2 rfl) ?_
  refine lv_iload_n hx hb dX4_bytes_16 rfl (lv_at hl 0 rfl) ?_
  refine lv_ishr hx hb dX4_bytes_17 ?_
  refine lv_sipush (v := nI 255) hx hb dX4_bytes_18 (by decide +kernel) ?_
  refine lv_iand hx hb dX4_bytes_21 ?_
  refine pm_ast9 (g := (va_up g 9 (upd (upd (g 9) b ((v >>> ((nI 24) &&& 31)) &&& (nI 255))) (b + 1) ((v >>> ((nI 16) &&& 31)) &&& (nI 255))))) (g2 := (va_up g 9 (upd (upd (upd (g 9) b ((v >>> ((nI 24) &&& 31)) &&& (nI 255))) (b + 1) ((v >>> ((nI 16) &&& 31)) &&& (nI 255))) (b + 1 + 1) ((v >>> ((nI 8) &&& 31)) &&& (nI 255))))) (X := (upd (upd (g 9) b ((v >>> ((nI 24) &&& 31)) &&& (nI 255))) (b + 1) ((v >>> ((nI 16) &&& 31)) &&& (nI 255)))) (e9 := b + 1 + 1) hx hb hK hP hD hS (va_up_self _ _ _) (by omega) (bx_uu _ _ _ _) dX4_bytes_22 (fun H locs hP hD hS => ?_)
  refine lv_aload_n hx hb dX4_bytes_23 rfl (lv_at hl 1 rfl) ?_
  refine lv_dup hx hb dX4_bytes_24 rfl ?_
  refine va_get (D := D) (ci := 0) (v := .int (nI (b + 1 + 1))) (C := RX4) (T := TX4) (N := 22) hx hb hts in_X4 hown hK hP 0 rfl rfl 10 (by decide) (hts _ q2492) (fun _ h9 => h9) rfl dX4_bytes_25 ?_
  refine lv_iconst (v := nI 1) hx hb dX4_bytes_28 (by decide) ?_
  refine pn_iadd hx hb dX4_bytes_29 ?_
  refine pm_put10 (f := (va_up f 10 (nI (b + 1 + 1)))) (f2 := (va_up f 10 (nI (b + 1 + 1 + 1)))) hx hb hts hown hK hP hD hS (hts _ q2492) (bx_uu _ _ _ _) dX4_bytes_30 (fun H locs hP hD hS => ?_)
  refine lv_iinc (v := nI 0) (lv' := [(2, .int (nI 0)), (0, .ref (h 0)), (1, .int (v))]) hx hb dX4_bytes_33 hl (k := 0) rfl (by decide +kernel) (by decide) rfl (fun ls hl => ?_)
  refine lv_goto (tgt := 3) hx hb dX4_bytes_36 (by decide) ?_
  refine lv_iload_n hx hb dX4_bytes_3 rfl (lv_at hl 0 rfl) ?_
  refine pn_if_lt (tgt := 39) hx hb (by omega) dX4_bytes_4 (by decide) ?_
  refine lv_aload_n hx hb dX4_bytes_7 rfl (lv_at hl 1 rfl) ?_
  refine va_get (D := D) (ci := 0) (v := .ref (h 9)) (C := RX4) (T := TX4) (N := 22) hx hb hts in_X4 hown hK hP 0 rfl rfl 9 (by decide) (hts _ q2491) (fun _ h9 => h9) rfl dX4_bytes_8 ?_
  refine lv_aload_n hx hb dX4_bytes_11 rfl (lv_at hl 1 rfl) ?_
  refine va_get (D := D) (ci := 0) (v := .int (nI (b + 1 + 1 + 1))) (C := RX4) (T := TX4) (N := 22) hx hb hts in_X4 hown hK hP 0 rfl rfl 10 (by decide) (hts _ q2492) (fun _ h9 => h9) rfl dX4_bytes_12 ?_
  refine lv_iload_n hx hb dX4_bytes_15 rfl (lv_at hl 2 rfl) ?_
  refine lv_iload_n hx hb dX4_bytes_16 rfl (lv_at hl 0 rfl) ?_
  refine lv_ishr hx hb dX4_bytes_17 ?_
  refine lv_sipush (v := nI 255) hx hb dX4_bytes_18 (by decide +kernel) ?_
  refine lv_iand hx hb dX4_bytes_21 ?_
  refine pm_ast9 (g := (va_up g 9 (upd (upd (upd (g 9) b ((v >>> ((nI 24) &&& 31)) &&& (nI 255))) (b + 1) ((v >>> ((nI 16) &&& 31)) &&& (nI 255))) (b + 1 + 1) ((v >>> ((nI 8) &&& 31)) &&& (nI 255))))) (g2 := (va_up g 9 (upd (upd (upd (upd (g 9) b ((v >>> ((nI 24) &&& 31)) &&& (nI 255))) (b + 1) ((v >>> ((nI 16) &&& 31)) &&& (nI 255))) (b + 1 + 1) ((v >>> ((nI 8) &&& 31)) &&& (nI 255))) (b + 1 + 1 + 1) ((v >>> ((nI 0) &&& 31)) &&& (nI 255))))) (X := (upd (upd (upd (g 9) b ((v >>> ((nI 24) &&& 31)) &&& (nI 255))) (b + 1) ((v >>> ((nI 16) &&& 31)) &&& (nI 255))) (b + 1 + 1) ((v >>> ((nI 8) &&& 31)) &&& (nI 255)))) (e9 := b + 1 + 1 + 1) hx hb hK hP hD hS (va_up_self _ _ _) (by omega) (bx_uu _ _ _ _) dX4_bytes_22 (fun H locs hP hD hS => ?_)
  refine lv_aload_n hx hb dX4_bytes_23 rfl (lv_at hl 1 rfl) ?_
  refine lv_dup hx hb dX4_bytes_24 rfl ?_
  refine va_get (D := D) (ci := 0) (v := .int (nI (b + 1 + 1 + 1))) (C := RX4) (T := TX4) (N := 22) hx hb hts in_X4 hown hK hP 0 rfl rfl 10 (by decide) (hts _ q2492) (fun _ h9 => h9) rfl dX4_bytes_25 ?_
  refine lv_iconst (v := nI 1) hx hb dX4_bytes_28 (by decide) ?_
  refine pn_iadd hx hb dX4_bytes_29 ?_
  refine pm_put10 (f := (va_up f 10 (nI (b + 1 + 1 + 1)))) (f2 := (va_up f 10 (nI (b + 1 + 1 + 1 + 1)))) hx hb hts hown hK hP hD hS (hts _ q2492) (bx_uu _ _ _ _) dX4_bytes_30 (fun H locs hP hD hS => ?_)
  refine lv_iinc (v := -8) (lv' := [(2, .int (-8)), (0, .ref (h 0)), (1, .int (v))]) hx hb dX4_bytes_33 hl (k := 0) rfl (by decide +kernel) (by decide) rfl (fun ls hl => ?_)
  refine lv_goto (tgt := 3) hx hb dX4_bytes_36 (by decide) ?_
  refine lv_iload_n hx hb dX4_bytes_3 rfl (lv_at hl 0 rfl) ?_
  refine lv_if_lt (tgt := 39) hx hb dX4_bytes_4 (by decide) (fun c5 => ?_) (fun c5 => ?_)
  · exact pm_retV hx hb hlk hr hq hP hD hS dX4_bytes_39 (by rfl)
  · exact absurd (by decide +kernel) c5

set_option maxHeartbeats 4000000 in
theorem m_appendText_ok (l : Launch) (D : va_G) (h : Nat → Nat) (cI : ClassId) (f : Nat → Int32) (g : Nat → Nat → Int32) (b : Nat) (v1 : Int32) (v2 : Int32) (v3 : Int32) (v4 : Int32) (v5 : Int32) (hb4 : f 10 = nI b) (hb5 : b + 20 ≤ 500) : pm_C l yX4_appendText (ws_ yX4_appendText cX4_appendText 6 (some .int)) ({ frames := 1, cells := 0, slots := 0, locals := 22 } : Room) D h cI [.ref (h 0), .int (v1), .int (v2), .int (v3), .int (v4), .int (v5)] f g (some (.int (nI (b + 20)))) (va_up (va_up f 0 (nI 0)) 10 (nI (b + 20))) (va_up g 9 (pc_put20 (g 9) b v1 v2 v3 v4 v5)) := by
  refine pm_enter (cc := cX4_appendText) (maxL := 6) (ret := (some .int)) (by decide) (Nat.le_of_ble_eq_true rfl) ?_
  intro p e s m below meth c A Qc ls hx hb hml hown hts hlk hA hK hP hD hS hr hq hl
  have hl : lv_has ls 6 [(0, .ref (h 0)), (1, .int (v1)), (2, .int (v2)), (3, .int (v3)), (4, .int (v4)), (5, .int (v5))] := hl
  refine lv_aload_n hx hb dX4_appendText_0 rfl (lv_at hl 0 rfl) ?_
  refine lv_iconst (v := nI 0) hx hb dX4_appendText_1 (by decide) ?_
  refine pm_put0 (f := f) (f2 := (va_up f 0 (nI 0))) hx hb hts hown hK hP hD hS (hts _ q2482) rfl dX4_appendText_2 (fun H locs hP hD hS => ?_)
  refine lv_aload_n hx hb dX4_appendText_5 rfl (lv_at hl 0 rfl) ?_
  refine va_get (D := D) (ci := 0) (v := .int (f 10)) (C := RX4) (T := TX4) (N := 22) hx hb hts in_X4 hown hK hP 0 rfl rfl 10 (by decide) (hts _ q2492) (fun _ h9 => h9) rfl dX4_appendText_6 ?_
  refine pn_top hb4 ?_
  refine lv_bipush (v := nI 20) hx hb dX4_appendText_9 (by decide) ?_
  refine pn_iadd hx hb dX4_appendText_11 ?_
  refine lv_sipush (v := nI 500) hx hb dX4_appendText_12 (by decide +kernel) ?_
  refine pn_icmp_le (tgt := 20) hx hb (by omega) (by omega) dX4_appendText_15 (by decide) (fun c1 => ?_) (fun c1 => ?_)
  · refine lv_aload_n hx hb dX4_appendText_20 rfl (lv_at hl 0 rfl) ?_
    refine lv_iload_n hx hb dX4_appendText_21 rfl (lv_at hl 1 rfl) ?_
    refine pm_callV (n := 1) [] hx hb hml hown hts hA hK (m_bytes l D h cI (va_up f 0 (nI 0)) g b v1 (by first | assumption | omega | rfl) (by first | assumption | omega | rfl)) (lw_V q2553 q2555 qs57 q122 q2556) ⟨rfl, rfl⟩ (by decide +kernel) ⟨Nat.le_of_ble_eq_true rfl, Nat.le_of_ble_eq_true rfl⟩ hP hD hS rfl hl.1 rfl (Nat.le_of_ble_eq_true rfl) ⟨Nat.zero_le _, Nat.zero_le _⟩ dX4_appendText_22 (fun H locs hP hD hS => ?_)
    have hP : va_P D pc_Cl (pm_W h cI (va_up (va_up f 0 (nI 0)) 10 (nI (b + 4))) (va_up g 9 (pc_put4 (g 9) b v1))) H := hP
    have hD : va_D A (pm_W h cI (va_up (va_up f 0 (nI 0)) 10 (nI (b + 4))) (va_up g 9 (pc_put4 (g 9) b v1))) := hD
    refine lv_aload_n hx hb dX4_appendText_25 rfl (lv_at hl 0 rfl) ?_
    refine lv_iload_n hx hb dX4_appendText_26 rfl (lv_at hl 2 rfl) ?_
    refine pm_callV (n := 1) [] hx hb hml hown hts hA hK (m_bytes l D h cI (va_up (va_up f 0 (nI 0)) 10 (nI (b + 4))) (va_up g 9 (pc_put4 (g 9) b v1)) (b + 4) v2 (by first | assumption | omega | rfl) (by first | assumption | omega | rfl)) (lw_V q2553 q2555 qs57 q122 q2556) ⟨rfl, rfl⟩ (by decide +kernel) ⟨Nat.le_of_ble_eq_true rfl, Nat.le_of_ble_eq_true rfl⟩ hP hD hS rfl hl.1 rfl (Nat.le_of_ble_eq_true rfl) ⟨Nat.zero_le _, Nat.zero_le _⟩ dX4_appendText_27 (fun H locs hP hD hS => ?_)
    have hP : va_P D pc_Cl (pm_W h cI (va_up (va_up f 0 (nI 0)) 10 (nI ((b + 4) + 4))) (va_up g 9 (pc_put4 (pc_put4 (g 9) b v1) (b + 4) v2))) H := hP
    have hD : va_D A (pm_W h cI (va_up (va_up f 0 (nI 0)) 10 (nI ((b + 4) + 4))) (va_up g 9 (pc_put4 (pc_put4 (g 9) b v1) (b + 4) v2))) := hD
    refine lv_aload_n hx hb dX4_appendText_30 rfl (lv_at hl 0 rfl) ?_
    refine lv_iload_n hx hb dX4_appendText_31 rfl (lv_at hl 3 rfl) ?_
    refine pm_callV (n := 1) [] hx hb hml hown hts hA hK (m_bytes l D h cI (va_up (va_up f 0 (nI 0)) 10 (nI ((b + 4) + 4))) (va_up g 9 (pc_put4 (pc_put4 (g 9) b v1) (b + 4) v2)) (b + 4 + 4) v3 (by first | assumption | omega | rfl) (by first | assumption | omega | rfl)) (lw_V q2553 q2555 qs57 q122 q2556) ⟨rfl, rfl⟩ (by decide +kernel) ⟨Nat.le_of_ble_eq_true rfl, Nat.le_of_ble_eq_true rfl⟩ hP hD hS rfl hl.1 rfl (Nat.le_of_ble_eq_true rfl) ⟨Nat.zero_le _, Nat.zero_le _⟩ dX4_appendText_32 (fun H locs hP hD hS => ?_)
    have hP : va_P D pc_Cl (pm_W h cI (va_up (va_up f 0 (nI 0)) 10 (nI ((b + 4 + 4) + 4))) (va_up g 9 (pc_put4 (pc_put4 (pc_put4 (g 9) b v1) (b + 4) v2) (b + 4 + 4) v3))) H := hP
    have hD : va_D A (pm_W h cI (va_up (va_up f 0 (nI 0)) 10 (nI ((b + 4 + 4) + 4))) (va_up g 9 (pc_put4 (pc_put4 (pc_put4 (g 9) b v1) (b + 4) v2) (b + 4 + 4) v3))) := hD
    refine lv_aload_n hx hb dX4_appendText_35 rfl (lv_at hl 0 rfl) ?_
    refine lv_iload hx hb dX4_appendText_36 (lv_at hl 4 rfl) ?_
    refine pm_callV (n := 1) [] hx hb hml hown hts hA hK (m_bytes l D h cI (va_up (va_up f 0 (nI 0)) 10 (nI ((b + 4 + 4) + 4))) (va_up g 9 (pc_put4 (pc_put4 (pc_put4 (g 9) b v1) (b + 4) v2) (b + 4 + 4) v3)) (b + 4 + 4 + 4) v4 (by first | assumption | omega | rfl) (by first | assumption | omega | rfl)) (lw_V q2553 q2555 qs57 q122 q2556) ⟨rfl, rfl⟩ (by decide +kernel) ⟨Nat.le_of_ble_eq_true rfl, Nat.le_of_ble_eq_true rfl⟩ hP hD hS rfl hl.1 rfl (Nat.le_of_ble_eq_true rfl) ⟨Nat.zero_le _, Nat.zero_le _⟩ dX4_appendText_38 (fun H locs hP hD hS => ?_)
    have hP : va_P D pc_Cl (pm_W h cI (va_up (va_up f 0 (nI 0)) 10 (nI ((b + 4 + 4 + 4) + 4))) (va_up g 9 (pc_put4 (pc_put4 (pc_put4 (pc_put4 (g 9) b v1) (b + 4) v2) (b + 4 + 4) v3) (b + 4 + 4 + 4) v4))) H := hP
    have hD : va_D A (pm_W h cI (va_up (va_up f 0 (nI 0)) 10 (nI ((b + 4 + 4 + 4) + 4))) (va_up g 9 (pc_put4 (pc_put4 (pc_put4 (pc_put4 (g 9) b v1) (b + 4) v2) (b + 4 + 4) v3) (b + 4 + 4 + 4) v4))) := hD
    refine lv_aload_n hx hb dX4_appendText_41 rfl (lv_at hl 0 rfl) ?_
    refine lv_iload hx hb dX4_appendText_42 (lv_at hl 5 rfl) ?_
    refine pm_callV (n := 1) [] hx hb hml hown hts hA hK (m_bytes l D h cI (va_up (va_up f 0 (nI 0)) 10 (nI ((b + 4 + 4 + 4) + 4))) (va_up g 9 (pc_put4 (pc_put4 (pc_put4 (pc_put4 (g 9) b v1) (b + 4) v2) (b + 4 + 4) v3) (b + 4 + 4 + 4) v4)) (b + 4 + 4 + 4 + 4) v5 (by first | assumption | omega | rfl) (by first | assumption | omega | rfl)) (lw_V q2553 q2555 qs57 q122 q2556) ⟨rfl, rfl⟩ (by decide +kernel) ⟨Nat.le_of_ble_eq_true rfl, Nat.le_of_ble_eq_true rfl⟩ hP hD hS rfl hl.1 rfl (Nat.le_of_ble_eq_true rfl) ⟨Nat.zero_le _, Nat.zero_le _⟩ dX4_appendText_44 (fun H locs hP hD hS => ?_)
    have hP : va_P D pc_Cl (pm_W h cI (va_up (va_up f 0 (nI 0)) 10 (nI ((b + 4 + 4 + 4 + 4) + 4))) (va_up g 9 (pc_put4 (pc_put4 (pc_put4 (pc_put4 (pc_put4 (g 9) b v1) (b + 4) v2) (b + 4 + 4) v3) (b + 4 + 4 + 4) v4) (b + 4 + 4 + 4 + 4) v5))) H := hP
    have hD : va_D A (pm_W h cI (va_up (va_up f 0 (nI 0)) 10 (nI ((b + 4 + 4 + 4 + 4) + 4))) (va_up g 9 (pc_put4 (pc_put4 (pc_put4 (pc_put4 (pc_put4 (g 9) b v1) (b + 4) v2) (b + 4 + 4) v3) (b + 4 + 4 + 4) v4) (b + 4 + 4 + 4 + 4) v5))) := hD
    refine lv_aload_n hx hb dX4_appendText_47 rfl (lv_at hl 0 rfl) ?_
    refine va_get (D := D) (ci := 0) (v := .int (nI ((b + 4 + 4 + 4 + 4) + 4))) (C := RX4) (T := TX4) (N := 22) hx hb hts in_X4 hown hK hP 0 rfl rfl 10 (by decide) (hts _ q2492) (fun _ h9 => h9) rfl dX4_appendText_48 ?_
    exact pm_retI hx hb hlk hr hq hP hD hS dX4_appendText_51 (by rfl) (by rfl)
  · exfalso; omega

set_option maxHeartbeats 4000000 in
theorem m_appendText_full (l : Launch) (D : va_G) (h : Nat → Nat) (cI : ClassId) (f : Nat → Int32) (g : Nat → Nat → Int32) (b : Nat) (v1 : Int32) (v2 : Int32) (v3 : Int32) (v4 : Int32) (v5 : Int32) (hb4 : f 10 = nI b) (hb6 : b ≤ 500) (hb5 : 500 < b + 20) : pm_C l yX4_appendText (ws_ yX4_appendText cX4_appendText 6 (some .int)) ({ frames := 0, cells := 0, slots := 0, locals := 0 } : Room) D h cI [.ref (h 0), .int (v1), .int (v2), .int (v3), .int (v4), .int (v5)] f g (some (.int (-1))) (va_up f 0 (nI 0)) g := by
  refine pm_enter (cc := cX4_appendText) (maxL := 6) (ret := (some .int)) (by decide) (Nat.le_of_ble_eq_true rfl) ?_
  intro p e s m below meth c A Qc ls hx hb hml hown hts hlk hA hK hP hD hS hr hq hl
  have hl : lv_has ls 6 [(0, .ref (h 0)), (1, .int (v1)), (2, .int (v2)), (3, .int (v3)), (4, .int (v4)), (5, .int (v5))] := hl
  refine lv_aload_n hx hb dX4_appendText_0 rfl (lv_at hl 0 rfl) ?_
  refine lv_iconst (v := nI 0) hx hb dX4_appendText_1 (by decide) ?_
  refine pm_put0 (f := f) (f2 := (va_up f 0 (nI 0))) hx hb hts hown hK hP hD hS (hts _ q2482) rfl dX4_appendText_2 (fun H locs hP hD hS => ?_)
  refine lv_aload_n hx hb dX4_appendText_5 rfl (lv_at hl 0 rfl) ?_
  refine va_get (D := D) (ci := 0) (v := .int (f 10)) (C := RX4) (T := TX4) (N := 22) hx hb hts in_X4 hown hK hP 0 rfl rfl 10 (by decide) (hts _ q2492) (fun _ h9 => h9) rfl dX4_appendText_6 ?_
  refine pn_top hb4 ?_
  refine lv_bipush (v := nI 20) hx hb dX4_appendText_9 (by decide) ?_
  refine pn_iadd hx hb dX4_appendText_11 ?_
  refine lv_sipush (v := nI 500) hx hb dX4_appendText_12 (by decide +kernel) ?_
  refine pn_icmp_le (tgt := 20) hx hb (by omega) (by omega) dX4_appendText_15 (by decide) (fun c1 => ?_) (fun c1 => ?_)
  · exfalso; omega
  · refine lv_iconst (v := -1) hx hb dX4_appendText_18 (by decide) ?_
    exact pm_retI hx hb hlk hr hq hP hD hS dX4_appendText_19 rfl rfl

set_option maxHeartbeats 4000000 in
theorem m_writes (l : Launch) (D : va_G) (h : Nat → Nat) (cI : ClassId) (f : Nat → Int32) (g : Nat → Nat → Int32) (L : Nat → Int32) (xs : List Nat) (j : Nat) (hg20 : g 20 = pc_lw L xs) (hf21 : f 21 = nI xs.length) (hx40 : xs.length < 40) : pm_C l yX4_writes (ws_ yX4_writes cX4_writes 2 none) ({ frames := 0, cells := 0, slots := 0, locals := 0 } : Room) D h cI [.ref (h 0), .int (nI j)] f g none (va_up f 21 (nI (xs ++ [j]).length)) (va_up g 20 (pc_lw L (xs ++ [j]))) := by
  refine pm_enter (cc := cX4_writes) (maxL := 2) (ret := none) (by decide) (Nat.le_of_ble_eq_true rfl) ?_
  intro p e s m below meth c A Qc ls hx hb hml hown hts hlk hA hK hP hD hS hr hq hl
  have hl : lv_has ls 2 [(0, .ref (h 0)), (1, .int (nI j))] := hl
  refine lv_aload_n hx hb dX4_writes_0 rfl (lv_at hl 0 rfl) ?_
  refine va_get (D := D) (ci := 0) (v := .ref (h 20)) (C := RX4) (T := TX4) (N := 22) hx hb hts in_X4 hown hK hP 0 rfl rfl 20 (by decide) (hts _ q2502) (fun _ h9 => h9) rfl dX4_writes_1 ?_
  refine lv_aload_n hx hb dX4_writes_4 rfl (lv_at hl 0 rfl) ?_
  refine va_get (D := D) (ci := 0) (v := .int (f 21)) (C := RX4) (T := TX4) (N := 22) hx hb hts in_X4 hown hK hP 0 rfl rfl 21 (by decide) (hts _ q2503) (fun _ h9 => h9) rfl dX4_writes_5 ?_
  refine pn_top hf21 ?_
  refine lv_iload_n hx hb dX4_writes_8 rfl (lv_at hl 1 rfl) ?_
  refine pm_ast20 (g := g) (g2 := (va_up g 20 (upd (g 20) xs.length (nI j)))) (X := g 20) (e9 := xs.length) hx hb hK hP hD hS rfl (by omega) rfl dX4_writes_9 (fun H locs hP hD hS => ?_)
  refine lv_aload_n hx hb dX4_writes_10 rfl (lv_at hl 0 rfl) ?_
  refine lv_dup hx hb dX4_writes_11 rfl ?_
  refine va_get (D := D) (ci := 0) (v := .int (f 21)) (C := RX4) (T := TX4) (N := 22) hx hb hts in_X4 hown hK hP 0 rfl rfl 21 (by decide) (hts _ q2503) (fun _ h9 => h9) rfl dX4_writes_12 ?_
  refine pn_top hf21 ?_
  refine lv_iconst (v := nI 1) hx hb dX4_writes_15 (by decide) ?_
  refine pn_iadd hx hb dX4_writes_16 ?_
  refine pm_put21 (f := f) (f2 := (va_up f 21 (nI (xs.length + 1)))) hx hb hts hown hK hP hD hS (hts _ q2503) rfl dX4_writes_17 (fun H locs hP hD hS => ?_)
  exact pm_retV hx hb hlk hr hq hP hD hS dX4_writes_20 (by rw [hg20, pc_lw_snoc, List.length_append]; rfl)

set_option maxHeartbeats 4000000 in
theorem m_writesNumber (l : Launch) (D : va_G) (h : Nat → Nat) (cI : ClassId) (f : Nat → Int32) (g : Nat → Nat → Int32) (L : Nat → Int32) (xs : List Nat) (v : Nat) (hg20 : g 20 = pc_lw L xs) (hf21 : f 21 = nI xs.length) (hx39 : xs.length < 39) (hv : v < 100) : pm_C l yX4_writesNumber (ws_ yX4_writesNumber cX4_writesNumber 2 none) ({ frames := 1, cells := 0, slots := 0, locals := 21 } : Room) D h cI [.ref (h 0), .int (nI v)] f g none (va_up f 21 (nI (xs ++ pc_numT v).length)) (va_up g 20 (pc_lw L (xs ++ pc_numT v))) := by
  refine pm_enter (cc := cX4_writesNumber) (maxL := 2) (ret := none) (by decide) (Nat.le_of_ble_eq_true rfl) ?_
  intro p e s m below meth c A Qc ls hx hb hml hown hts hlk hA hK hP hD hS hr hq hl
  have hl : lv_has ls 2 [(0, .ref (h 0)), (1, .int (nI v))] := hl
  refine lv_iload_n hx hb dX4_writesNumber_0 rfl (lv_at hl 1 rfl) ?_
  refine lv_bipush (v := nI 9) hx hb dX4_writesNumber_1 (by decide) ?_
  refine pn_icmp_le (tgt := 17) hx hb (by omega) (by omega) dX4_writesNumber_3 (by decide) (fun c1 => ?_) (fun c1 => ?_)
  · have hnT : pc_numT v = [48 + v % 10] := if_neg (by omega)
    refine lv_aload_n hx hb dX4_writesNumber_17 rfl (lv_at hl 0 rfl) ?_
    refine lv_bipush (v := nI 48) hx hb dX4_writesNumber_18 (by decide) ?_
    refine lv_iload_n hx hb dX4_writesNumber_20 rfl (lv_at hl 1 rfl) ?_
    refine lv_bipush (v := nI 10) hx hb dX4_writesNumber_21 (by decide) ?_
    refine lv_irem hx hb dX4_writesNumber_23 (by decide) ?_
    refine pn_top (y := nI (v % 10)) (pc_irem (by omega) (by omega) (by omega)) ?_
    refine pn_iadd hx hb dX4_writesNumber_24 ?_
    refine pm_callV (n := 1) [] hx hb hml hown hts hA hK (m_writes l D h cI f g L xs (48 + (v % 10)) (by first | assumption | omega | rfl) (by first | assumption | omega | rfl) (by first | assumption | omega | rfl)) (lw_V q2906 q2908 qs96 q122 q2909) ⟨rfl, rfl⟩ (by decide +kernel) ⟨Nat.le_of_ble_eq_true rfl, Nat.le_of_ble_eq_true rfl⟩ hP hD hS rfl hl.1 rfl (Nat.le_of_ble_eq_true rfl) ⟨Nat.zero_le _, Nat.zero_le _⟩ dX4_writesNumber_25 (fun H locs hP hD hS => ?_)
    have hP : va_P D pc_Cl (pm_W h cI (va_up f 21 (nI (xs ++ [(48 + (v % 10))]).length)) (va_up g 20 (pc_lw L (xs ++ [(48 + (v % 10))])))) H := hP
    have hD : va_D A (pm_W h cI (va_up f 21 (nI (xs ++ [(48 + (v % 10))]).length)) (va_up g 20 (pc_lw L (xs ++ [(48 + (v % 10))])))) := hD
    exact pm_retV hx hb hlk hr hq hP hD hS dX4_writesNumber_28 (by rw [hnT]; first | done | rfl | (rw [List.append_assoc]; rfl))
  · have hnT : pc_numT v = [48 + v / 10, 48 + v % 10] := if_pos (by omega)
    refine lv_aload_n hx hb dX4_writesNumber_6 rfl (lv_at hl 0 rfl) ?_
    refine lv_bipush (v := nI 48) hx hb dX4_writesNumber_7 (by decide) ?_
    refine lv_iload_n hx hb dX4_writesNumber_9 rfl (lv_at hl 1 rfl) ?_
    refine lv_bipush (v := nI 10) hx hb dX4_writesNumber_10 (by decide) ?_
    refine lv_idiv hx hb dX4_writesNumber_12 (by decide) ?_
    refine pn_top (y := nI (v / 10)) (pk_div (by omega) (by omega) (by omega)) ?_
    refine pn_iadd hx hb dX4_writesNumber_13 ?_
    refine pm_callV (n := 1) [] hx hb hml hown hts hA hK (m_writes l D h cI f g L xs (48 + (v / 10)) (by first | assumption | omega | rfl) (by first | assumption | omega | rfl) (by first | assumption | omega | rfl)) (lw_V q2906 q2908 qs96 q122 q2909) ⟨rfl, rfl⟩ (by decide +kernel) ⟨Nat.le_of_ble_eq_true rfl, Nat.le_of_ble_eq_true rfl⟩ hP hD hS rfl hl.1 rfl (Nat.le_of_ble_eq_true rfl) ⟨Nat.zero_le _, Nat.zero_le _⟩ dX4_writesNumber_14 (fun H locs hP hD hS => ?_)
    have hP : va_P D pc_Cl (pm_W h cI (va_up f 21 (nI (xs ++ [(48 + (v / 10))]).length)) (va_up g 20 (pc_lw L (xs ++ [(48 + (v / 10))])))) H := hP
    have hD : va_D A (pm_W h cI (va_up f 21 (nI (xs ++ [(48 + (v / 10))]).length)) (va_up g 20 (pc_lw L (xs ++ [(48 + (v / 10))])))) := hD
    refine lv_aload_n hx hb dX4_writesNumber_17 rfl (lv_at hl 0 rfl) ?_
    refine lv_bipush (v := nI 48) hx hb dX4_writesNumber_18 (by decide) ?_
    refine lv_iload_n hx hb dX4_writesNumber_20 rfl (lv_at hl 1 rfl) ?_
    refine lv_bipush (v := nI 10) hx hb dX4_writesNumber_21 (by decide) ?_
    refine lv_irem hx hb dX4_writesNumber_23 (by decide) ?_
    refine pn_top (y := nI (v % 10)) (pc_irem (by omega) (by omega) (by omega)) ?_
    refine pn_iadd hx hb dX4_writesNumber_24 ?_
    refine pm_callV (n := 1) [] hx hb hml hown hts hA hK (m_writes l D h cI (va_up f 21 (nI (xs ++ [(48 + (v / 10))]).length)) (va_up g 20 (pc_lw L (xs ++ [(48 + (v / 10))]))) L (xs ++ [48 + v / 10]) (48 + (v % 10)) rfl rfl (by simp; omega)) (lw_V q2906 q2908 qs96 q122 q2909) ⟨rfl, rfl⟩ (by decide +kernel) ⟨Nat.le_of_ble_eq_true rfl, Nat.le_of_ble_eq_true rfl⟩ hP hD hS rfl hl.1 rfl (Nat.le_of_ble_eq_true rfl) ⟨Nat.zero_le _, Nat.zero_le _⟩ dX4_writesNumber_25 (fun H locs hP hD hS => ?_)
    have hP : va_P D pc_Cl (pm_W h cI (va_up f 21 (nI ((xs ++ [48 + v / 10]) ++ [(48 + (v % 10))]).length)) (va_up g 20 (pc_lw L ((xs ++ [48 + v / 10]) ++ [(48 + (v % 10))])))) H := hP
    have hD : va_D A (pm_W h cI (va_up f 21 (nI ((xs ++ [48 + v / 10]) ++ [(48 + (v % 10))]).length)) (va_up g 20 (pc_lw L ((xs ++ [48 + v / 10]) ++ [(48 + (v % 10))])))) := hD
    exact pm_retV hx hb hlk hr hq hP hD hS dX4_writesNumber_28 (by rw [hnT]; first | done | rfl | (rw [List.append_assoc]; rfl))

set_option maxHeartbeats 4000000 in
theorem m_outputByte_ok (l : Launch) (D : va_G) (h : Nat → Nat) (cI : ClassId) (f : Nat → Int32) (g : Nat → Nat → Int32) (L : Nat → Int32) (xs : List Nat) (j : Nat) (hg20 : g 20 = pc_lw L xs) (hf21 : f 21 = nI xs.length) (hj : j < xs.length) (hx40 : xs.length ≤ 40) : pm_C l yX4_outputByte (ws_ yX4_outputByte cX4_outputByte 2 (some .int)) ({ frames := 1, cells := 0, slots := 0, locals := 22 } : Room) D h cI [.ref (h 0), .int (nI j)] f g (some (.int (nI (xs.getD j 0)))) (va_up f 0 (nI 0)) g := by
  refine pm_enter (cc := cX4_outputByte) (maxL := 2) (ret := (some .int)) (by decide) (Nat.le_of_ble_eq_true rfl) ?_
  intro p e s m below meth c A Qc ls hx hb hml hown hts hlk hA hK hP hD hS hr hq hl
  have hl : lv_has ls 2 [(0, .ref (h 0)), (1, .int (nI j))] := hl
  refine lv_aload_n hx hb dX4_outputByte_0 rfl (lv_at hl 0 rfl) ?_
  refine lv_iconst (v := nI 0) hx hb dX4_outputByte_1 (by decide) ?_
  refine pm_put0 (f := f) (f2 := (va_up f 0 (nI 0))) hx hb hts hown hK hP hD hS (hts _ q2482) rfl dX4_outputByte_2 (fun H locs hP hD hS => ?_)
  refine lv_aload_n hx hb dX4_outputByte_5 rfl (lv_at hl 0 rfl) ?_
  refine lv_iload_n hx hb dX4_outputByte_6 rfl (lv_at hl 1 rfl) ?_
  refine lv_iconst (v := nI 0) hx hb dX4_outputByte_7 (by decide) ?_
  refine lv_aload_n hx hb dX4_outputByte_8 rfl (lv_at hl 0 rfl) ?_
  refine va_get (D := D) (ci := 0) (v := .int (f 21)) (C := RX4) (T := TX4) (N := 22) hx hb hts in_X4 hown hK hP 0 rfl rfl 21 (by decide) (hts _ q2503) (fun _ h9 => h9) rfl dX4_outputByte_9 ?_
  refine pn_top hf21 ?_
  refine lv_iconst (v := nI 1) hx hb dX4_outputByte_12 (by decide) ?_
  refine pn_isub hx hb (by omega) dX4_outputByte_13 ?_
  refine pp_callS (n := 3) (rest := [.ref (h 0)]) hx hb hml hown hts (m_in_ok l (nI j) (nI 0) (nI (xs.length - 1)) ((pc_inr_nat (by omega)).mpr ⟨j, by omega, rfl⟩)) (lw_S q2363 q2364 q122 q2365) ⟨rfl, rfl⟩ (by decide +kernel) ⟨Nat.le_of_ble_eq_true rfl, Nat.le_of_ble_eq_true rfl⟩ rfl hl.1 rfl (Nat.le_of_ble_eq_true rfl) dX4_outputByte_14 ⟨Nat.zero_le _, Nat.zero_le _⟩ ?_
  refine lv_iconst (v := nI 1) hx hb dX4_outputByte_17 (by decide) ?_
  refine pm_callI (n := 2) [] hx hb hml hown hts hA hK (m_fails_ok l D h cI (va_up f 0 (nI 0)) g (nI 1) (by first | assumption | omega | rfl)) (lw_V q2366 q2368 qs32 q122 q2369) ⟨rfl, rfl⟩ (by decide +kernel) ⟨Nat.le_of_ble_eq_true rfl, Nat.le_of_ble_eq_true rfl⟩ hP hD hS rfl hl.1 rfl (Nat.le_of_ble_eq_true rfl) ⟨Nat.zero_le _, Nat.zero_le _⟩ dX4_outputByte_18 (fun H locs hP hD hS => ?_)
  refine pb_if_eq (tgt := 28) hx hb dX4_outputByte_21 (by decide) (fun c1 => ?_) (fun c1 => ?_)
  · refine lv_aload_n hx hb dX4_outputByte_28 rfl (lv_at hl 0 rfl) ?_
    refine va_get (D := D) (ci := 0) (v := .ref (h 20)) (C := RX4) (T := TX4) (N := 22) hx hb hts in_X4 hown hK hP 0 rfl rfl 20 (by decide) (hts _ q2502) (fun _ h9 => h9) rfl dX4_outputByte_29 ?_
    refine lv_iload_n hx hb dX4_outputByte_32 rfl (lv_at hl 1 rfl) ?_
    refine pn_iald (e9 := j) (f := g 20) hx hb hK hP 9 0 rfl rfl (by omega) (by decide) dX4_outputByte_33 ?_
    exact pm_retI hx hb hlk hr hq hP hD hS dX4_outputByte_34 (by rw [hg20]; exact pc_lw_get L hj) rfl
  · exfalso; cases c1

set_option maxHeartbeats 4000000 in
theorem m_outputByte_no (l : Launch) (D : va_G) (h : Nat → Nat) (cI : ClassId) (f : Nat → Int32) (g : Nat → Nat → Int32) (x8 : Int32) (hx8 : pc_inr x8 (nI 0) (f 21 - nI 1) = false) : pm_C l yX4_outputByte (ws_ yX4_outputByte cX4_outputByte 2 (some .int)) ({ frames := 1, cells := 0, slots := 0, locals := 22 } : Room) D h cI [.ref (h 0), .int (x8)] f g (some (.int (nI 0))) (va_up f 0 (nI 1)) g := by
  refine pm_enter (cc := cX4_outputByte) (maxL := 2) (ret := (some .int)) (by decide) (Nat.le_of_ble_eq_true rfl) ?_
  intro p e s m below meth c A Qc ls hx hb hml hown hts hlk hA hK hP hD hS hr hq hl
  have hl : lv_has ls 2 [(0, .ref (h 0)), (1, .int (x8))] := hl
  refine lv_aload_n hx hb dX4_outputByte_0 rfl (lv_at hl 0 rfl) ?_
  refine lv_iconst (v := nI 0) hx hb dX4_outputByte_1 (by decide) ?_
  refine pm_put0 (f := f) (f2 := (va_up f 0 (nI 0))) hx hb hts hown hK hP hD hS (hts _ q2482) rfl dX4_outputByte_2 (fun H locs hP hD hS => ?_)
  refine lv_aload_n hx hb dX4_outputByte_5 rfl (lv_at hl 0 rfl) ?_
  refine lv_iload_n hx hb dX4_outputByte_6 rfl (lv_at hl 1 rfl) ?_
  refine lv_iconst (v := nI 0) hx hb dX4_outputByte_7 (by decide) ?_
  refine lv_aload_n hx hb dX4_outputByte_8 rfl (lv_at hl 0 rfl) ?_
  refine va_get (D := D) (ci := 0) (v := .int (f 21)) (C := RX4) (T := TX4) (N := 22) hx hb hts in_X4 hown hK hP 0 rfl rfl 21 (by decide) (hts _ q2503) (fun _ h9 => h9) rfl dX4_outputByte_9 ?_
  refine lv_iconst (v := nI 1) hx hb dX4_outputByte_12 (by decide) ?_
  refine lv_isub hx hb dX4_outputByte_13 ?_
  refine pp_callS (n := 3) (rest := [.ref (h 0)]) hx hb hml hown hts (m_in_no l x8 (nI 0) ((f 21) - (nI 1)) hx8) (lw_S q2363 q2364 q122 q2365) ⟨rfl, rfl⟩ (by decide +kernel) ⟨Nat.le_of_ble_eq_true rfl, Nat.le_of_ble_eq_true rfl⟩ rfl hl.1 rfl (Nat.le_of_ble_eq_true rfl) dX4_outputByte_14 ⟨Nat.zero_le _, Nat.zero_le _⟩ ?_
  refine lv_iconst (v := nI 1) hx hb dX4_outputByte_17 (by decide) ?_
  refine pm_callI (n := 2) [] hx hb hml hown hts hA hK (m_fails_no l D h cI (va_up f 0 (nI 0)) g 1 (by first | assumption | omega | rfl) (by first | assumption | omega | rfl) (by first | assumption | omega | rfl)) (lw_V q2366 q2368 qs32 q122 q2369) ⟨rfl, rfl⟩ (by decide +kernel) ⟨Nat.le_of_ble_eq_true rfl, Nat.le_of_ble_eq_true rfl⟩ hP hD hS rfl hl.1 rfl (Nat.le_of_ble_eq_true rfl) ⟨Nat.zero_le _, Nat.zero_le _⟩ dX4_outputByte_18 (fun H locs hP hD hS => ?_)
  have hP : va_P D pc_Cl (pm_W h cI (va_up f 0 (nI 1)) g) H := hP
  have hD : va_D A (pm_W h cI (va_up f 0 (nI 1)) g) := hD
  refine pb_if_eq (tgt := 28) hx hb dX4_outputByte_21 (by decide) (fun c1 => ?_) (fun c1 => ?_)
  · exfalso; cases c1
  · refine lv_iconst (v := nI 0) hx hb dX4_outputByte_24 (by decide) ?_
    refine lv_goto (tgt := 34) hx hb dX4_outputByte_25 (by decide) ?_
    exact pm_retI hx hb hlk hr hq hP hD hS dX4_outputByte_34 rfl rfl

set_option maxHeartbeats 4000000 in
theorem m_byteAt (l : Launch) (D : va_G) (h : Nat → Nat) (cI : ClassId) (f : Nat → Int32) (g : Nat → Nat → Int32) (E : Nat) (j : Nat) (hE : f 11 = nI E) (hE5 : E ≤ 500) (hj : j ≤ 500) : pm_C l yX4_byteAt (ws_ yX4_byteAt cX4_byteAt 2 (some .int)) ({ frames := 0, cells := 0, slots := 0, locals := 0 } : Room) D h cI [.ref (h 0), .int (nI j)] f g (some (.int (pc_byteAt (g 9) E j))) f g := by
  refine pm_enter (cc := cX4_byteAt) (maxL := 2) (ret := (some .int)) (by decide) (Nat.le_of_ble_eq_true rfl) ?_
  intro p e s m below meth c A Qc ls hx hb hml hown hts hlk hA hK hP hD hS hr hq hl
  have hl : lv_has ls 2 [(0, .ref (h 0)), (1, .int (nI j))] := hl
  refine lv_iload_n hx hb dX4_byteAt_0 rfl (lv_at hl 1 rfl) ?_
  refine lv_aload_n hx hb dX4_byteAt_1 rfl (lv_at hl 0 rfl) ?_
  refine va_get (D := D) (ci := 0) (v := .int (f 11)) (C := RX4) (T := TX4) (N := 22) hx hb hts in_X4 hown hK hP 0 rfl rfl 11 (by decide) (hts _ q2493) (fun _ h9 => h9) rfl dX4_byteAt_2 ?_
  refine pn_top hE ?_
  refine pn_icmp_ge (tgt := 17) hx hb (by omega) (by omega) dX4_byteAt_5 (by decide) (fun c1 => ?_) (fun c1 => ?_)
  · refine lv_iconst (v := -1) hx hb dX4_byteAt_17 (by decide) ?_
    exact pm_retI hx hb hlk hr hq hP hD hS dX4_byteAt_18 (by first | exact (if_pos c1).symm | exact (if_neg (by omega)).symm) rfl
  · refine lv_aload_n hx hb dX4_byteAt_8 rfl (lv_at hl 0 rfl) ?_
    refine va_get (D := D) (ci := 0) (v := .ref (h 9)) (C := RX4) (T := TX4) (N := 22) hx hb hts in_X4 hown hK hP 0 rfl rfl 9 (by decide) (hts _ q2491) (fun _ h9 => h9) rfl dX4_byteAt_9 ?_
    refine lv_iload_n hx hb dX4_byteAt_12 rfl (lv_at hl 1 rfl) ?_
    refine pn_iald (e9 := j) (f := g 9) hx hb hK hP 7 0 rfl rfl (by omega) (by decide) dX4_byteAt_13 ?_
    refine lv_goto (tgt := 18) hx hb dX4_byteAt_14 (by decide) ?_
    exact pm_retI hx hb hlk hr hq hP hD hS dX4_byteAt_18 (by first | exact (if_pos c1).symm | exact (if_neg (by omega)).symm) rfl

set_option maxHeartbeats 4000000 in
theorem m_errs (l : Launch) (D : va_G) (h : Nat → Nat) (cI : ClassId) (f : Nat → Int32) (g : Nat → Nat → Int32) (x : Int32) : pm_C l yX4_errs (ws_ yX4_errs cX4_errs 2 none) ({ frames := 0, cells := 0, slots := 0, locals := 0 } : Room) D h cI [.ref (h 0), .int (x)] f g none (pc_errF f x) g := by
  refine pm_enter (cc := cX4_errs) (maxL := 2) (ret := none) (by decide) (Nat.le_of_ble_eq_true rfl) ?_
  intro p e s m below meth c A Qc ls hx hb hml hown hts hlk hA hK hP hD hS hr hq hl
  have hl : lv_has ls 2 [(0, .ref (h 0)), (1, .int (x))] := hl
  refine lv_aload_n hx hb dX4_errs_0 rfl (lv_at hl 0 rfl) ?_
  refine va_get (D := D) (ci := 0) (v := .int (f 16)) (C := RX4) (T := TX4) (N := 22) hx hb hts in_X4 hown hK hP 0 rfl rfl 16 (by decide) (hts _ q2498) (fun _ h9 => h9) rfl dX4_errs_1 ?_
  refine lv_if_eq (tgt := 8) hx hb dX4_errs_4 (by decide) (fun c1 => ?_) (fun c1 => ?_)
  · refine lv_aload_n hx hb dX4_errs_8 rfl (lv_at hl 0 rfl) ?_
    refine lv_iload_n hx hb dX4_errs_9 rfl (lv_at hl 1 rfl) ?_
    refine pm_put16 (f := f) (f2 := (va_up f 16 x)) hx hb hts hown hK hP hD hS (hts _ q2498) rfl dX4_errs_10 (fun H locs hP hD hS => ?_)
    refine lv_aload_n hx hb dX4_errs_13 rfl (lv_at hl 0 rfl) ?_
    refine lv_aload_n hx hb dX4_errs_14 rfl (lv_at hl 0 rfl) ?_
    refine va_get (D := D) (ci := 0) (v := .int (f 13)) (C := RX4) (T := TX4) (N := 22) hx hb hts in_X4 hown hK hP 0 rfl rfl 13 (by decide) (hts _ q2495) (fun _ h9 => h9) rfl dX4_errs_15 ?_
    refine pm_put17 (f := (va_up f 16 x)) (f2 := (va_up (va_up f 16 x) 17 (f 13))) hx hb hts hown hK hP hD hS (hts _ q2499) rfl dX4_errs_18 (fun H locs hP hD hS => ?_)
    exact pm_retV hx hb hlk hr hq hP hD hS dX4_errs_21 (by rw [pc_errF, if_pos c1])
  · exact pm_retV hx hb hlk hr hq hP hD hS dX4_errs_7 (by rw [pc_errF, if_neg c1])
