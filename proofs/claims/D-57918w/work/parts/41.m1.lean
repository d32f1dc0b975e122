/-! THE REFERENCE 1: what reads the row -/
set_option maxRecDepth 100000
set_option maxHeartbeats 4000000 in
theorem m_in (l : Launch) (v : Int32) (a : Int32) (b : Int32) : pp_C l yX4_in (ws_ yX4_in cX4_in 3 (some .boolean)) ({ frames := 0, cells := 0, slots := 0, locals := 0 } : Room) [.int (v), .int (a), .int (b)] (some (.int (pc_b (pc_inr v a b)))) := by
  refine pp_enter (cc := cX4_in) (maxL := 3) (ret := (some .boolean)) (by decide) (Nat.le_of_ble_eq_true rfl) ?_
  intro p e s m below meth c Qc ls hx hb hml hown hts hlk hr hq hl
  have hl : lv_has ls 3 [(0, .int (v)), (1, .int (a)), (2, .int (b))] := hl
  refine lv_iload_n hx hb dX4_in_0 rfl (lv_at hl 0 rfl) ?_
  refine lv_iload_n hx hb dX4_in_1 rfl (lv_at hl 1 rfl) ?_
  refine lv_icmp_lt (tgt := 14) hx hb dX4_in_2 (by decide) (fun c1 => ?_) (fun c1 => ?_)
  · refine lv_iconst (v := nI 0) hx hb dX4_in_14 (by decide) ?_
    exact pp_retZ hx hb hlk hr hq dX4_in_15 (by simp [pc_b, pc_inr, c1])
  · refine lv_iload_n hx hb dX4_in_5 rfl (lv_at hl 0 rfl) ?_
    refine lv_iload_n hx hb dX4_in_6 rfl (lv_at hl 2 rfl) ?_
    refine lv_icmp_gt (tgt := 14) hx hb dX4_in_7 (by decide) (fun c2 => ?_) (fun c2 => ?_)
    · refine lv_iconst (v := nI 0) hx hb dX4_in_14 (by decide) ?_
      exact pp_retZ hx hb hlk hr hq dX4_in_15 (by simp [pc_b, pc_inr, c1, c2])
    · refine lv_iconst (v := nI 1) hx hb dX4_in_10 (by decide) ?_
      refine lv_goto (tgt := 15) hx hb dX4_in_11 (by decide) ?_
      exact pp_retZ hx hb hlk hr hq dX4_in_15 (by simp [pc_b, pc_inr, c1, c2])

set_option maxHeartbeats 4000000 in
theorem m_in_ok (l : Launch) (v : Int32) (a : Int32) (b : Int32) (hin : pc_inr v a b = true) : pp_C l yX4_in (ws_ yX4_in cX4_in 3 (some .boolean)) ({ frames := 0, cells := 0, slots := 0, locals := 0 } : Room) [.int (v), .int (a), .int (b)] (some (.int (pc_b true))) := by
  refine pp_enter (cc := cX4_in) (maxL := 3) (ret := (some .boolean)) (by decide) (Nat.le_of_ble_eq_true rfl) ?_
  intro p e s m below meth c Qc ls hx hb hml hown hts hlk hr hq hl
  have hl : lv_has ls 3 [(0, .int (v)), (1, .int (a)), (2, .int (b))] := hl
  refine lv_iload_n hx hb dX4_in_0 rfl (lv_at hl 0 rfl) ?_
  refine lv_iload_n hx hb dX4_in_1 rfl (lv_at hl 1 rfl) ?_
  refine lv_icmp_lt (tgt := 14) hx hb dX4_in_2 (by decide) (fun c1 => ?_) (fun c1 => ?_)
  · refine lv_iconst (v := nI 0) hx hb dX4_in_14 (by decide) ?_
    exact pp_retZ hx hb hlk hr hq dX4_in_15 (by rw [← hin]; simp [pc_b, pc_inr, c1])
  · refine lv_iload_n hx hb dX4_in_5 rfl (lv_at hl 0 rfl) ?_
    refine lv_iload_n hx hb dX4_in_6 rfl (lv_at hl 2 rfl) ?_
    refine lv_icmp_gt (tgt := 14) hx hb dX4_in_7 (by decide) (fun c2 => ?_) (fun c2 => ?_)
    · refine lv_iconst (v := nI 0) hx hb dX4_in_14 (by decide) ?_
      exact pp_retZ hx hb hlk hr hq dX4_in_15 (by rw [← hin]; simp [pc_b, pc_inr, c1, c2])
    · refine lv_iconst (v := nI 1) hx hb dX4_in_10 (by decide) ?_
      refine lv_goto (tgt := 15) hx hb dX4_in_11 (by decide) ?_
      exact pp_retZ hx hb hlk hr hq dX4_in_15 (by rw [← hin]; simp [pc_b, pc_inr, c1, c2])

set_option maxHeartbeats 4000000 in
theorem m_in_no (l : Launch) (v : Int32) (a : Int32) (b : Int32) (hin : pc_inr v a b = false) : pp_C l yX4_in (ws_ yX4_in cX4_in 3 (some .boolean)) ({ frames := 0, cells := 0, slots := 0, locals := 0 } : Room) [.int (v), .int (a), .int (b)] (some (.int (pc_b false))) := by
  refine pp_enter (cc := cX4_in) (maxL := 3) (ret := (some .boolean)) (by decide) (Nat.le_of_ble_eq_true rfl) ?_
  intro p e s m below meth c Qc ls hx hb hml hown hts hlk hr hq hl
  have hl : lv_has ls 3 [(0, .int (v)), (1, .int (a)), (2, .int (b))] := hl
  refine lv_iload_n hx hb dX4_in_0 rfl (lv_at hl 0 rfl) ?_
  refine lv_iload_n hx hb dX4_in_1 rfl (lv_at hl 1 rfl) ?_
  refine lv_icmp_lt (tgt := 14) hx hb dX4_in_2 (by decide) (fun c1 => ?_) (fun c1 => ?_)
  · refine lv_iconst (v := nI 0) hx hb dX4_in_14 (by decide) ?_
    exact pp_retZ hx hb hlk hr hq dX4_in_15 (by rw [← hin]; simp [pc_b, pc_inr, c1])
  · refine lv_iload_n hx hb dX4_in_5 rfl (lv_at hl 0 rfl) ?_
    refine lv_iload_n hx hb dX4_in_6 rfl (lv_at hl 2 rfl) ?_
    refine lv_icmp_gt (tgt := 14) hx hb dX4_in_7 (by decide) (fun c2 => ?_) (fun c2 => ?_)
    · refine lv_iconst (v := nI 0) hx hb dX4_in_14 (by decide) ?_
      exact pp_retZ hx hb hlk hr hq dX4_in_15 (by rw [← hin]; simp [pc_b, pc_inr, c1, c2])
    · refine lv_iconst (v := nI 1) hx hb dX4_in_10 (by decide) ?_
      refine lv_goto (tgt := 15) hx hb dX4_in_11 (by decide) ?_
      exact pp_retZ hx hb hlk hr hq dX4_in_15 (by rw [← hin]; simp [pc_b, pc_inr, c1, c2])

set_option maxHeartbeats 4000000 in
theorem m_truth (l : Launch) (b : Bool) : pp_C l yX4_truth (ws_ yX4_truth cX4_truth 1 (some .int)) ({ frames := 0, cells := 0, slots := 0, locals := 0 } : Room) [.int (pc_b b)] (some (.int (pc_b b))) := by
  refine pp_enter (cc := cX4_truth) (maxL := 1) (ret := (some .int)) (by decide) (Nat.le_of_ble_eq_true rfl) ?_
  intro p e s m below meth c Qc ls hx hb hml hown hts hlk hr hq hl
  have hl : lv_has ls 1 [(0, .int (pc_b b))] := hl
  refine lv_iload_n hx hb dX4_truth_0 rfl (lv_at hl 0 rfl) ?_
  refine pb_if_eq (tgt := 8) hx hb dX4_truth_1 (by decide) (fun c1 => ?_) (fun c1 => ?_)
  · refine lv_iconst (v := nI 0) hx hb dX4_truth_8 (by decide) ?_
    exact pp_retI hx hb hlk hr hq dX4_truth_9 (by rw [c1]; rfl)
  · refine lv_iconst (v := nI 1) hx hb dX4_truth_4 (by decide) ?_
    refine lv_goto (tgt := 9) hx hb dX4_truth_5 (by decide) ?_
    exact pp_retI hx hb hlk hr hq dX4_truth_9 (by rw [c1]; rfl)

set_option maxHeartbeats 4000000 in
theorem m_plain (l : Launch) (x : Int32) : pp_C l yX4_plain (ws_ yX4_plain cX4_plain 1 (some .int)) ({ frames := 0, cells := 0, slots := 0, locals := 0 } : Room) [.int (x)] (some (.int (pc_plain x))) := by
  refine pp_enter (cc := cX4_plain) (maxL := 1) (ret := (some .int)) (by decide) (Nat.le_of_ble_eq_true rfl) ?_
  intro p e s m below meth c Qc ls hx hb hml hown hts hlk hr hq hl
  have hl : lv_has ls 1 [(0, .int (x))] := hl
  refine lv_iload_n hx hb dX4_plain_0 rfl (lv_at hl 0 rfl) ?_
  refine lv_if_ge (tgt := 9) hx hb dX4_plain_1 (by decide) (fun c1 => ?_) (fun c1 => ?_)
  · refine lv_iload_n hx hb dX4_plain_9 rfl (lv_at hl 0 rfl) ?_
    exact pp_retI hx hb hlk hr hq dX4_plain_10 (by simp [pc_plain, c1])
  · refine lv_iload_n hx hb dX4_plain_4 rfl (lv_at hl 0 rfl) ?_
    refine lv_ineg hx hb dX4_plain_5 ?_
    refine lv_goto (tgt := 10) hx hb dX4_plain_6 (by decide) ?_
    exact pp_retI hx hb hlk hr hq dX4_plain_10 (by simp [pc_plain, c1])

set_option maxHeartbeats 4000000 in
theorem m_has (l : Launch) (S : Nat) (o : Nat) (hS : S < 256) (ho : o < 8) : pp_C l yX4_has (ws_ yX4_has cX4_has 2 (some .boolean)) ({ frames := 0, cells := 0, slots := 0, locals := 0 } : Room) [.int (nI S), .int (nI o)] (some (.int (pc_b (S.testBit o)))) := by
  refine pp_enter (cc := cX4_has) (maxL := 2) (ret := (some .boolean)) (by decide) (Nat.le_of_ble_eq_true rfl) ?_
  intro p e s m below meth c Qc ls hx hb hml hown hts hlk hr hq hl
  have hl : lv_has ls 2 [(0, .int (nI S)), (1, .int (nI o))] := hl
  refine lv_iload_n hx hb dX4_has_0 rfl (lv_at hl 0 rfl) ?_
  refine lv_iload_n hx hb dX4_has_1 rfl (lv_at hl 1 rfl) ?_
  refine lv_ishr hx hb dX4_has_2 ?_
  refine lv_iconst (v := nI 1) hx hb dX4_has_3 (by decide) ?_
  refine lv_iand hx hb dX4_has_4 ?_
  refine lv_iconst (v := nI 1) hx hb dX4_has_5 (by decide) ?_
  refine lv_icmp_ne (tgt := 13) hx hb dX4_has_6 (by decide) (fun c1 => ?_) (fun c1 => ?_)
  · refine lv_iconst (v := nI 0) hx hb dX4_has_13 (by decide) ?_
    exact pp_retZ hx hb hlk hr hq dX4_has_14 (by have h9 := pc_has hS ho; first | (rw [h9.mp c1]; rfl) | (rw [Bool.eq_false_iff.mpr (fun q => c1 (h9.mpr q))]; rfl))
  · refine lv_iconst (v := nI 1) hx hb dX4_has_9 (by decide) ?_
    refine lv_goto (tgt := 14) hx hb dX4_has_10 (by decide) ?_
    exact pp_retZ hx hb hlk hr hq dX4_has_14 (by have h9 := pc_has hS ho; first | (rw [h9.mp c1]; rfl) | (rw [Bool.eq_false_iff.mpr (fun q => c1 (h9.mpr q))]; rfl))

set_option maxHeartbeats 4000000 in
theorem m_isLetter (l : Launch) (x : Int32) : pp_C l yX4_isLetter (ws_ yX4_isLetter cX4_isLetter 1 (some .boolean)) ({ frames := 0, cells := 0, slots := 0, locals := 0 } : Room) [.int (x)] (some (.int (pc_b (pc_letter x)))) := by
  refine pp_enter (cc := cX4_isLetter) (maxL := 1) (ret := (some .boolean)) (by decide) (Nat.le_of_ble_eq_true rfl) ?_
  intro p e s m below meth c Qc ls hx hb hml hown hts hlk hr hq hl
  have hl : lv_has ls 1 [(0, .int (x))] := hl
  refine lv_iload_n hx hb dX4_isLetter_0 rfl (lv_at hl 0 rfl) ?_
  refine lv_bipush (v := nI 97) hx hb dX4_isLetter_1 (by decide) ?_
  refine lv_icmp_lt (tgt := 16) hx hb dX4_isLetter_3 (by decide) (fun c1 => ?_) (fun c1 => ?_)
  · refine lv_iconst (v := nI 0) hx hb dX4_isLetter_16 (by decide) ?_
    exact pp_retZ hx hb hlk hr hq dX4_isLetter_17 (by simp [pc_b, pc_letter, c1])
  · refine lv_iload_n hx hb dX4_isLetter_6 rfl (lv_at hl 0 rfl) ?_
    refine lv_bipush (v := nI 122) hx hb dX4_isLetter_7 (by decide) ?_
    refine lv_icmp_gt (tgt := 16) hx hb dX4_isLetter_9 (by decide) (fun c2 => ?_) (fun c2 => ?_)
    · refine lv_iconst (v := nI 0) hx hb dX4_isLetter_16 (by decide) ?_
      exact pp_retZ hx hb hlk hr hq dX4_isLetter_17 (by simp [pc_b, pc_letter, c1, c2])
    · refine lv_iconst (v := nI 1) hx hb dX4_isLetter_12 (by decide) ?_
      refine lv_goto (tgt := 17) hx hb dX4_isLetter_13 (by decide) ?_
      exact pp_retZ hx hb hlk hr hq dX4_isLetter_17 (by simp [pc_b, pc_letter, c1, c2])

set_option maxHeartbeats 4000000 in
theorem m_isFigure (l : Launch) (x : Int32) : pp_C l yX4_isFigure (ws_ yX4_isFigure cX4_isFigure 1 (some .boolean)) ({ frames := 0, cells := 0, slots := 0, locals := 0 } : Room) [.int (x)] (some (.int (pc_b (pc_figure x)))) := by
  refine pp_enter (cc := cX4_isFigure) (maxL := 1) (ret := (some .boolean)) (by decide) (Nat.le_of_ble_eq_true rfl) ?_
  intro p e s m below meth c Qc ls hx hb hml hown hts hlk hr hq hl
  have hl : lv_has ls 1 [(0, .int (x))] := hl
  refine lv_iload_n hx hb dX4_isFigure_0 rfl (lv_at hl 0 rfl) ?_
  refine lv_bipush (v := nI 48) hx hb dX4_isFigure_1 (by decide) ?_
  refine lv_icmp_lt (tgt := 16) hx hb dX4_isFigure_3 (by decide) (fun c1 => ?_) (fun c1 => ?_)
  · refine lv_iconst (v := nI 0) hx hb dX4_isFigure_16 (by decide) ?_
    exact pp_retZ hx hb hlk hr hq dX4_isFigure_17 (by simp [pc_b, pc_figure, c1])
  · refine lv_iload_n hx hb dX4_isFigure_6 rfl (lv_at hl 0 rfl) ?_
    refine lv_bipush (v := nI 57) hx hb dX4_isFigure_7 (by decide) ?_
    refine lv_icmp_gt (tgt := 16) hx hb dX4_isFigure_9 (by decide) (fun c2 => ?_) (fun c2 => ?_)
    · refine lv_iconst (v := nI 0) hx hb dX4_isFigure_16 (by decide) ?_
      exact pp_retZ hx hb hlk hr hq dX4_isFigure_17 (by simp [pc_b, pc_figure, c1, c2])
    · refine lv_iconst (v := nI 1) hx hb dX4_isFigure_12 (by decide) ?_
      refine lv_goto (tgt := 17) hx hb dX4_isFigure_13 (by decide) ?_
      exact pp_retZ hx hb hlk hr hq dX4_isFigure_17 (by simp [pc_b, pc_figure, c1, c2])

set_option maxHeartbeats 4000000 in
theorem m_of (l : Launch) (D : va_G) (h : Nat → Nat) (cI : ClassId) (f : Nat → Int32) (g : Nat → Nat → Int32) (o : Nat) (w : Nat) (ho : o < 8) (hw : w < 11) : pm_C l yX4_of (ws_ yX4_of cX4_of 3 (some .int)) ({ frames := 0, cells := 0, slots := 0, locals := 0 } : Room) D h cI [.ref (h 0), .int (nI o), .int (nI w)] f g (some (.int (pc_of (g 1) o w))) f g := by
  refine pm_enter (cc := cX4_of) (maxL := 3) (ret := (some .int)) (by decide) (Nat.le_of_ble_eq_true rfl) ?_
  intro p e s m below meth c A Qc ls hx hb hml hown hts hlk hA hK hP hD hS hr hq hl
  have hl : lv_has ls 3 [(0, .ref (h 0)), (1, .int (nI o)), (2, .int (nI w))] := hl
  refine lv_aload_n hx hb dX4_of_0 rfl (lv_at hl 0 rfl) ?_
  refine va_get (D := D) (ci := 0) (v := .ref (h 1)) (C := RX4) (T := TX4) (N := 22) hx hb hts in_X4 hown hK hP 0 rfl rfl 1 (by decide) (hts _ q2483) (fun _ h9 => h9) rfl dX4_of_1 ?_
  refine lv_bipush (v := nI 13) hx hb dX4_of_4 (by decide) ?_
  refine lv_bipush (v := nI 11) hx hb dX4_of_6 (by decide) ?_
  refine lv_iload_n hx hb dX4_of_8 rfl (lv_at hl 1 rfl) ?_
  refine pn_imul hx hb dX4_of_9 ?_
  refine pn_iadd hx hb dX4_of_10 ?_
  refine lv_iload_n hx hb dX4_of_11 rfl (lv_at hl 2 rfl) ?_
  refine pn_iadd hx hb dX4_of_12 ?_
  refine pn_iald (e9 := 13 + (11 * o) + w) (f := g 1) hx hb hK hP 1 0 rfl rfl (by omega) (by decide) dX4_of_13 ?_
  exact pm_retI hx hb hlk hr hq hP hD hS dX4_of_14 (by rfl) rfl

set_option maxHeartbeats 4000000 in
theorem m_lays (l : Launch) (D : va_G) (h : Nat → Nat) (cI : ClassId) (f : Nat → Int32) (g : Nat → Nat → Int32) (o : Nat) (w : Nat) (x : Int32) (ho : o < 8) (hw : w < 11) : pm_C l yX4_lays (ws_ yX4_lays cX4_lays 4 none) ({ frames := 0, cells := 0, slots := 0, locals := 0 } : Room) D h cI [.ref (h 0), .int (nI o), .int (nI w), .int (x)] f g none f (va_up g 1 (pc_lays (g 1) o w x)) := by
  refine pm_enter (cc := cX4_lays) (maxL := 4) (ret := none) (by decide) (Nat.le_of_ble_eq_true rfl) ?_
  intro p e s m below meth c A Qc ls hx hb hml hown hts hlk hA hK hP hD hS hr hq hl
  have hl : lv_has ls 4 [(0, .ref (h 0)), (1, .int (nI o)), (2, .int (nI w)), (3, .int (x))] := hl
  refine lv_aload_n hx hb dX4_lays_0 rfl (lv_at hl 0 rfl) ?_
  refine va_get (D := D) (ci := 0) (v := .ref (h 1)) (C := RX4) (T := TX4) (N := 22) hx hb hts in_X4 hown hK hP 0 rfl rfl 1 (by decide) (hts _ q2483) (fun _ h9 => h9) rfl dX4_lays_1 ?_
  refine lv_bipush (v := nI 13) hx hb dX4_lays_4 (by decide) ?_
  refine lv_bipush (v := nI 11) hx hb dX4_lays_6 (by decide) ?_
  refine lv_iload_n hx hb dX4_lays_8 rfl (lv_at hl 1 rfl) ?_
  refine pn_imul hx hb dX4_lays_9 ?_
  refine pn_iadd hx hb dX4_lays_10 ?_
  refine lv_iload_n hx hb dX4_lays_11 rfl (lv_at hl 2 rfl) ?_
  refine pn_iadd hx hb dX4_lays_12 ?_
  refine lv_iload_n hx hb dX4_lays_13 rfl (lv_at hl 3 rfl) ?_
  refine pm_ast1 (g := g) (g2 := (va_up g 1 (upd (g 1) (13 + (11 * o) + w) x))) (X := g 1) (e9 := 13 + (11 * o) + w) hx hb hK hP hD hS rfl (by omega) rfl dX4_lays_14 (fun H locs hP hD hS => ?_)
  exact pm_retV hx hb hlk hr hq hP hD hS dX4_lays_15 (by rfl)

set_option maxHeartbeats 4000000 in
theorem m_needOf (l : Launch) (D : va_G) (h : Nat → Nat) (cI : ClassId) (f : Nat → Int32) (g : Nat → Nat → Int32) (o : Nat) (k : Nat) (ho : o < 8) (hk : k < 4) : pm_C l yX4_needOf (ws_ yX4_needOf cX4_needOf 3 (some .int)) ({ frames := 1, cells := 0, slots := 0, locals := 22 } : Room) D h cI [.ref (h 0), .int (nI o), .int (nI k)] f g (some (.int (pc_need (g 1) o k))) f g := by
  refine pm_enter (cc := cX4_needOf) (maxL := 3) (ret := (some .int)) (by decide) (Nat.le_of_ble_eq_true rfl) ?_
  intro p e s m below meth c A Qc ls hx hb hml hown hts hlk hA hK hP hD hS hr hq hl
  have hl : lv_has ls 3 [(0, .ref (h 0)), (1, .int (nI o)), (2, .int (nI k))] := hl
  refine lv_aload_n hx hb dX4_needOf_0 rfl (lv_at hl 0 rfl) ?_
  refine lv_iload_n hx hb dX4_needOf_1 rfl (lv_at hl 1 rfl) ?_
  refine lv_iconst (v := nI 0) hx hb dX4_needOf_2 (by decide) ?_
  refine lv_iload_n hx hb dX4_needOf_3 rfl (lv_at hl 2 rfl) ?_
  refine pn_iadd hx hb dX4_needOf_4 ?_
  refine pm_callI (n := 2) [] hx hb hml hown hts hA hK (m_of l D h cI f g o (0 + k) (by first | assumption | omega | rfl) (by first | assumption | omega | rfl)) (lw_V q2443 q2445 qs48 q122 q2446) ⟨rfl, rfl⟩ (by decide +kernel) ⟨Nat.le_of_ble_eq_true rfl, Nat.le_of_ble_eq_true rfl⟩ hP hD hS rfl hl.1 rfl (Nat.le_of_ble_eq_true rfl) ⟨Nat.zero_le _, Nat.zero_le _⟩ dX4_needOf_5 (fun H locs hP hD hS => ?_)
  refine lv_aload_n hx hb dX4_needOf_8 rfl (lv_at hl 0 rfl) ?_
  refine lv_iload_n hx hb dX4_needOf_9 rfl (lv_at hl 1 rfl) ?_
  refine lv_iconst (v := nI 4) hx hb dX4_needOf_10 (by decide) ?_
  refine lv_iload_n hx hb dX4_needOf_11 rfl (lv_at hl 2 rfl) ?_
  refine pn_iadd hx hb dX4_needOf_12 ?_
  refine pm_callI (n := 2) [.int (pc_of (g 1) o (0 + k))] hx hb hml hown hts hA hK (m_of l D h cI f g o (4 + k) (by first | assumption | omega | rfl) (by first | assumption | omega | rfl)) (lw_V q2443 q2445 qs48 q122 q2446) ⟨rfl, rfl⟩ (by decide +kernel) ⟨Nat.le_of_ble_eq_true rfl, Nat.le_of_ble_eq_true rfl⟩ hP hD hS rfl hl.1 rfl (Nat.le_of_ble_eq_true rfl) ⟨Nat.zero_le _, Nat.zero_le _⟩ dX4_needOf_13 (fun H locs hP hD hS => ?_)
  refine lv_isub hx hb dX4_needOf_16 ?_
  exact pm_retI hx hb hlk hr hq hP hD hS dX4_needOf_17 (by rfl) rfl

set_option maxHeartbeats 4000000 in
theorem m_heldInAll (l : Launch) (D : va_G) (h : Nat → Nat) (cI : ClassId) (f : Nat → Int32) (g : Nat → Nat → Int32) (N : Nat) (k : Nat) (hN : g 1 1 = nI N) (hN8 : N ≤ 8) (hk : k < 4) : pm_C l yX4_heldInAll (ws_ yX4_heldInAll cX4_heldInAll 4 (some .int)) ({ frames := 1, cells := 0, slots := 0, locals := 22 } : Room) D h cI [.ref (h 0), .int (nI k)] f g (some (.int (pc_held (g 1) N k))) f g := by
  refine pm_enter (cc := cX4_heldInAll) (maxL := 4) (ret := (some .int)) (by decide) (Nat.le_of_ble_eq_true rfl) ?_
  intro p e s m below meth c A Qc ls hx hb hml hown hts hlk hA hK hP hD hS hr hq hl
  have hl : lv_has ls 4 [(0, .ref (h 0)), (1, .int (nI k))] := hl
  refine lv_iconst (v := nI 0) hx hb dX4_heldInAll_0 (by decide) ?_
  refine lv_istore_n (lv' := [(2, .int (nI 0)), (0, .ref (h 0)), (1, .int (nI k))]) hx hb dX4_heldInAll_1 rfl hl (by decide) rfl (fun ls hl => ?_)
  refine lv_iconst (v := nI 0) hx hb dX4_heldInAll_2 (by decide) ?_
  refine lv_istore_n (lv' := [(3, .int (nI 0)), (2, .int (nI 0)), (0, .ref (h 0)), (1, .int (nI k))]) hx hb dX4_heldInAll_3 rfl hl (by decide) rfl (fun ls hl => ?_)
  have hloop4 : ∀ (n4 : Nat) (i1 : Nat), i1 ≤ N → N - i1 < n4 → ∀ (H : Heap) (locs : List Loc), va_P D pc_Cl (pm_W h cI f g) H → va_D A (pm_W h cI f g) → va_S A s.heap H locs → ∀ ls : Array Slot, lv_has ls 4 [(2, .int (pc_sum (fun z9 => pc_of (g 1) z9 (4 + k)) i1)), (3, .int (nI i1)), (0, .ref (h 0)), (1, .int (nI k))] → W p l e ({ frames := 1, cells := 0, slots := 0, locals := 22 } : Room) s m ([.ref (h 0), .int (nI k)] : List Value).toArray below meth c H locs 0 0 (MQ below Qc ([.ref (h 0), .int (nI k)] : List Value).toArray s 0 0 A) (F0 m 4 ls []) := by
    intro n4
    induction n4 with
    | zero => intro i1 hi1 hm; exact absurd hm (by omega)
    | succ n4 ih4 =>
      intro i1 hi1 hm4 H locs hP hD hS ls hl
      refine lv_iload_n hx hb dX4_heldInAll_4 rfl (lv_at hl 1 rfl) ?_
      refine lv_aload_n hx hb dX4_heldInAll_5 rfl (lv_at hl 2 rfl) ?_
      refine va_get (D := D) (ci := 0) (v := .ref (h 1)) (C := RX4) (T := TX4) (N := 22) hx hb hts in_X4 hown hK hP 0 rfl rfl 1 (by decide) (hts _ q2483) (fun _ h9 => h9) rfl dX4_heldInAll_6 ?_
      refine lv_iconst (v := nI 1) hx hb dX4_heldInAll_9 (by decide) ?_
      refine pn_iald (e9 := 1) (f := g 1) hx hb hK hP 1 0 rfl rfl (by omega) (by decide) dX4_heldInAll_10 ?_
      refine pn_top hN ?_
      refine pn_icmp_ge (tgt := 31) hx hb (by omega) (by omega) dX4_heldInAll_11 (by decide) (fun c1 => ?_) (fun c1 => ?_)
      · refine lv_iload_n hx hb dX4_heldInAll_31 rfl (lv_at hl 0 rfl) ?_
        exact pm_retI hx hb hlk hr hq hP hD hS dX4_heldInAll_32 (by rw [show i1 = N from by omega]; rfl) rfl
      · refine lv_iload_n hx hb dX4_heldInAll_14 rfl (lv_at hl 0 rfl) ?_
        refine lv_aload_n hx hb dX4_heldInAll_15 rfl (lv_at hl 2 rfl) ?_
        refine lv_iload_n hx hb dX4_heldInAll_16 rfl (lv_at hl 1 rfl) ?_
        refine lv_iconst (v := nI 4) hx hb dX4_heldInAll_17 (by decide) ?_
        refine lv_iload_n hx hb dX4_heldInAll_18 rfl (lv_at hl 3 rfl) ?_
        refine pn_iadd hx hb dX4_heldInAll_19 ?_
        refine pm_callI (n := 2) [.int (pc_sum (fun z9 => pc_of (g 1) z9 (4 + k)) i1)] hx hb hml hown hts hA hK (m_of l D h cI f g i1 (4 + k) (by first | assumption | omega | rfl) (by first | assumption | omega | rfl)) (lw_V q2443 q2445 qs48 q122 q2446) ⟨rfl, rfl⟩ (by decide +kernel) ⟨Nat.le_of_ble_eq_true rfl, Nat.le_of_ble_eq_true rfl⟩ hP hD hS rfl hl.1 rfl (Nat.le_of_ble_eq_true rfl) ⟨Nat.zero_le _, Nat.zero_le _⟩ dX4_heldInAll_20 (fun H locs hP hD hS => ?_)
        refine lv_iadd hx hb dX4_heldInAll_23 ?_
        refine lv_istore_n (lv' := [(2, .int ((pc_sum (fun z9 => pc_of (g 1) z9 (4 + k)) i1) + (pc_of (g 1) i1 (4 + k)))), (3, .int (nI i1)), (0, .ref (h 0)), (1, .int (nI k))]) hx hb dX4_heldInAll_24 rfl hl (by decide) rfl (fun ls hl => ?_)
        refine lv_iinc (v := nI (i1 + 1)) (lv' := [(3, .int (nI (i1 + 1))), (2, .int ((pc_sum (fun z9 => pc_of (g 1) z9 (4 + k)) i1) + (pc_of (g 1) i1 (4 + k)))), (0, .ref (h 0)), (1, .int (nI k))]) hx hb dX4_heldInAll_25 hl (k := 1) rfl (nI_1 _) (by decide) rfl (fun ls hl => ?_)
        refine lv_goto (tgt := 4) hx hb dX4_heldInAll_28 (by decide) ?_
        exact ih4 (i1 + 1) (by first | assumption | omega) (by omega) _ _ hP hD hS _ (lv_sub hl [1, 0, 2, 3] rfl)
  exact hloop4 (N - 0 + 1) 0 (by first | assumption | omega) (by omega) _ _ hP hD hS _ (lv_sub hl [1, 0, 2, 3] rfl)

set_option maxHeartbeats 4000000 in
theorem m_free (l : Launch) (D : va_G) (h : Nat → Nat) (cI : ClassId) (f : Nat → Int32) (g : Nat → Nat → Int32) (N : Nat) (k : Nat) (hN : g 1 1 = nI N) (hN8 : N ≤ 8) (hk : k < 4) : pm_C l yX4_free (ws_ yX4_free cX4_free 2 (some .int)) ({ frames := 2, cells := 0, slots := 0, locals := 45 } : Room) D h cI [.ref (h 0), .int (nI k)] f g (some (.int (pc_free (g 1) N k))) f g := by
  refine pm_enter (cc := cX4_free) (maxL := 2) (ret := (some .int)) (by decide) (Nat.le_of_ble_eq_true rfl) ?_
  intro p e s m below meth c A Qc ls hx hb hml hown hts hlk hA hK hP hD hS hr hq hl
  have hl : lv_has ls 2 [(0, .ref (h 0)), (1, .int (nI k))] := hl
  refine lv_aload_n hx hb dX4_free_0 rfl (lv_at hl 0 rfl) ?_
  refine va_get (D := D) (ci := 0) (v := .ref (h 1)) (C := RX4) (T := TX4) (N := 22) hx hb hts in_X4 hown hK hP 0 rfl rfl 1 (by decide) (hts _ q2483) (fun _ h9 => h9) rfl dX4_free_1 ?_
  refine lv_bipush (v := nI 9) hx hb dX4_free_4 (by decide) ?_
  refine lv_iload_n hx hb dX4_free_6 rfl (lv_at hl 1 rfl) ?_
  refine pn_iadd hx hb dX4_free_7 ?_
  refine pn_iald (e9 := 9 + k) (f := g 1) hx hb hK hP 1 0 rfl rfl (by omega) (by decide) dX4_free_8 ?_
  refine lv_aload_n hx hb dX4_free_9 rfl (lv_at hl 0 rfl) ?_
  refine lv_iload_n hx hb dX4_free_10 rfl (lv_at hl 1 rfl) ?_
  refine pm_callI (n := 1) [.int ((g 1) (9 + k))] hx hb hml hown hts hA hK (m_heldInAll l D h cI f g N k (by first | assumption | omega | rfl) (by first | assumption | omega | rfl) (by first | assumption | omega | rfl)) (lw_V q2451 q2453 qs50 q122 q2454) ⟨rfl, rfl⟩ (by decide +kernel) ⟨Nat.le_of_ble_eq_true rfl, Nat.le_of_ble_eq_true rfl⟩ hP hD hS rfl hl.1 rfl (Nat.le_of_ble_eq_true rfl) ⟨Nat.zero_le _, Nat.zero_le _⟩ dX4_free_11 (fun H locs hP hD hS => ?_)
  refine lv_isub hx hb dX4_free_14 ?_
  exact pm_retI hx hb hlk hr hq hP hD hS dX4_free_15 (by rfl) rfl

set_option maxHeartbeats 4000000 in
theorem m_heldOf (l : Launch) (D : va_G) (h : Nat → Nat) (cI : ClassId) (f : Nat → Int32) (g : Nat → Nat → Int32) (K : Nat) (o : Nat) (hK0 : g 1 0 = nI K) (hK4 : K ≤ 4) (ho : o < 8) : pm_C l yX4_heldOf (ws_ yX4_heldOf cX4_heldOf 4 (some .int)) ({ frames := 1, cells := 0, slots := 0, locals := 22 } : Room) D h cI [.ref (h 0), .int (nI o)] f g (some (.int (pc_heldOf (g 1) K o))) f g := by
  refine pm_enter (cc := cX4_heldOf) (maxL := 4) (ret := (some .int)) (by decide) (Nat.le_of_ble_eq_true rfl) ?_
  intro p e s m below meth c A Qc ls hx hb hml hown hts hlk hA hK hP hD hS hr hq hl
  have hl : lv_has ls 4 [(0, .ref (h 0)), (1, .int (nI o))] := hl
  refine lv_iconst (v := nI 0) hx hb dX4_heldOf_0 (by decide) ?_
  refine lv_istore_n (lv' := [(2, .int (nI 0)), (0, .ref (h 0)), (1, .int (nI o))]) hx hb dX4_heldOf_1 rfl hl (by decide) rfl (fun ls hl => ?_)
  refine lv_iconst (v := nI 0) hx hb dX4_heldOf_2 (by decide) ?_
  refine lv_istore_n (lv' := [(3, .int (nI 0)), (2, .int (nI 0)), (0, .ref (h 0)), (1, .int (nI o))]) hx hb dX4_heldOf_3 rfl hl (by decide) rfl (fun ls hl => ?_)
  have hloop4 : ∀ (n4 : Nat) (i1 : Nat), i1 ≤ K → K - i1 < n4 → ∀ (H : Heap) (locs : List Loc), va_P D pc_Cl (pm_W h cI f g) H → va_D A (pm_W h cI f g) → va_S A s.heap H locs → ∀ ls : Array Slot, lv_has ls 4 [(2, .int (pc_sum (fun z9 => pc_of (g 1) o (4 + z9)) i1)), (3, .int (nI i1)), (0, .ref (h 0)), (1, .int (nI o))] → W p l e ({ frames := 1, cells := 0, slots := 0, locals := 22 } : Room) s m ([.ref (h 0), .int (nI o)] : List Value).toArray below meth c H locs 0 0 (MQ below Qc ([.ref (h 0), .int (nI o)] : List Value).toArray s 0 0 A) (F0 m 4 ls []) := by
    intro n4
    induction n4 with
    | zero => intro i1 hi1 hm; exact absurd hm (by omega)
    | succ n4 ih4 =>
      intro i1 hi1 hm4 H locs hP hD hS ls hl
      refine lv_iload_n hx hb dX4_heldOf_4 rfl (lv_at hl 1 rfl) ?_
      refine lv_aload_n hx hb dX4_heldOf_5 rfl (lv_at hl 2 rfl) ?_
      refine va_get (D := D) (ci := 0) (v := .ref (h 1)) (C := RX4) (T := TX4) (N := 22) hx hb hts in_X4 hown hK hP 0 rfl rfl 1 (by decide) (hts _ q2483) (fun _ h9 => h9) rfl dX4_heldOf_6 ?_
      refine lv_iconst (v := nI 0) hx hb dX4_heldOf_9 (by decide) ?_
      refine pn_iald (e9 := 0) (f := g 1) hx hb hK hP 1 0 rfl rfl (by omega) (by decide) dX4_heldOf_10 ?_
      refine pn_top hK0 ?_
      refine pn_icmp_ge (tgt := 31) hx hb (by omega) (by omega) dX4_heldOf_11 (by decide) (fun c1 => ?_) (fun c1 => ?_)
      · refine lv_iload_n hx hb dX4_heldOf_31 rfl (lv_at hl 0 rfl) ?_
        exact pm_retI hx hb hlk hr hq hP hD hS dX4_heldOf_32 (by rw [show i1 = K from by omega]; rfl) rfl
      · refine lv_iload_n hx hb dX4_heldOf_14 rfl (lv_at hl 0 rfl) ?_
        refine lv_aload_n hx hb dX4_heldOf_15 rfl (lv_at hl 2 rfl) ?_
        refine lv_iload_n hx hb dX4_heldOf_16 rfl (lv_at hl 3 rfl) ?_
        refine lv_iconst (v := nI 4) hx hb dX4_heldOf_17 (by decide) ?_
        refine lv_iload_n hx hb dX4_heldOf_18 rfl (lv_at hl 1 rfl) ?_
        refine pn_iadd hx hb dX4_heldOf_19 ?_
        refine pm_callI (n := 2) [.int (pc_sum (fun z9 => pc_of (g 1) o (4 + z9)) i1)] hx hb hml hown hts hA hK (m_of l D h cI f g o (4 + i1) (by first | assumption | omega | rfl) (by first | assumption | omega | rfl)) (lw_V q2443 q2445 qs48 q122 q2446) ⟨rfl, rfl⟩ (by decide +kernel) ⟨Nat.le_of_ble_eq_true rfl, Nat.le_of_ble_eq_true rfl⟩ hP hD hS rfl hl.1 rfl (Nat.le_of_ble_eq_true rfl) ⟨Nat.zero_le _, Nat.zero_le _⟩ dX4_heldOf_20 (fun H locs hP hD hS => ?_)
        refine lv_iadd hx hb dX4_heldOf_23 ?_
        refine lv_istore_n (lv' := [(2, .int ((pc_sum (fun z9 => pc_of (g 1) o (4 + z9)) i1) + (pc_of (g 1) o (4 + i1)))), (3, .int (nI i1)), (0, .ref (h 0)), (1, .int (nI o))]) hx hb dX4_heldOf_24 rfl hl (by decide) rfl (fun ls hl => ?_)
        refine lv_iinc (v := nI (i1 + 1)) (lv' := [(3, .int (nI (i1 + 1))), (2, .int ((pc_sum (fun z9 => pc_of (g 1) o (4 + z9)) i1) + (pc_of (g 1) o (4 + i1)))), (0, .ref (h 0)), (1, .int (nI o))]) hx hb dX4_heldOf_25 hl (k := 1) rfl (nI_1 _) (by decide) rfl (fun ls hl => ?_)
        refine lv_goto (tgt := 4) hx hb dX4_heldOf_28 (by decide) ?_
        exact ih4 (i1 + 1) (by first | assumption | omega) (by omega) _ _ hP hD hS _ (lv_sub hl [1, 0, 2, 3] rfl)
  exact hloop4 (K - 0 + 1) 0 (by first | assumption | omega) (by omega) _ _ hP hD hS _ (lv_sub hl [1, 0, 2, 3] rfl)

set_option maxHeartbeats 4000000 in
theorem m_held (l : Launch) (D : va_G) (h : Nat → Nat) (cI : ClassId) (f : Nat → Int32) (g : Nat → Nat → Int32) (K : Nat) (N : Nat) (hN : g 1 1 = nI N) (hN8 : N ≤ 8) (hK0 : g 1 0 = nI K) (hK4 : K ≤ 4) : pm_C l yX4_held (ws_ yX4_held cX4_held 3 (some .int)) ({ frames := 2, cells := 0, slots := 0, locals := 45 } : Room) D h cI [.ref (h 0)] f g (some (.int (pc_heldAll (g 1) K N))) f g := by
  refine pm_enter (cc := cX4_held) (maxL := 3) (ret := (some .int)) (by decide) (Nat.le_of_ble_eq_true rfl) ?_
  intro p e s m below meth c A Qc ls hx hb hml hown hts hlk hA hK hP hD hS hr hq hl
  have hl : lv_has ls 3 [(0, .ref (h 0))] := hl
  refine lv_iconst (v := nI 0) hx hb dX4_held_0 (by decide) ?_
  refine lv_istore_n (lv' := [(1, .int (nI 0)), (0, .ref (h 0))]) hx hb dX4_held_1 rfl hl (by decide) rfl (fun ls hl => ?_)
  refine lv_iconst (v := nI 0) hx hb dX4_held_2 (by decide) ?_
  refine lv_istore_n (lv' := [(2, .int (nI 0)), (1, .int (nI 0)), (0, .ref (h 0))]) hx hb dX4_held_3 rfl hl (by decide) rfl (fun ls hl => ?_)
  have hloop4 : ∀ (n4 : Nat) (i1 : Nat), i1 ≤ K → K - i1 < n4 → ∀ (H : Heap) (locs : List Loc), va_P D pc_Cl (pm_W h cI f g) H → va_D A (pm_W h cI f g) → va_S A s.heap H locs → ∀ ls : Array Slot, lv_has ls 3 [(1, .int (pc_sum (fun z9 => pc_held (g 1) N z9) i1)), (2, .int (nI i1)), (0, .ref (h 0))] → W p l e ({ frames := 2, cells := 0, slots := 0, locals := 45 } : Room) s m ([.ref (h 0)] : List Value).toArray below meth c H locs 0 0 (MQ below Qc ([.ref (h 0)] : List Value).toArray s 0 0 A) (F0 m 4 ls []) := by
    intro n4
    induction n4 with
    | zero => intro i1 hi1 hm; exact absurd hm (by omega)
    | succ n4 ih4 =>
      intro i1 hi1 hm4 H locs hP hD hS ls hl
      refine lv_iload_n hx hb dX4_held_4 rfl (lv_at hl 1 rfl) ?_
      refine lv_aload_n hx hb dX4_held_5 rfl (lv_at hl 2 rfl) ?_
      refine va_get (D := D) (ci := 0) (v := .ref (h 1)) (C := RX4) (T := TX4) (N := 22) hx hb hts in_X4 hown hK hP 0 rfl rfl 1 (by decide) (hts _ q2483) (fun _ h9 => h9) rfl dX4_held_6 ?_
      refine lv_iconst (v := nI 0) hx hb dX4_held_9 (by decide) ?_
      refine pn_iald (e9 := 0) (f := g 1) hx hb hK hP 1 0 rfl rfl (by omega) (by decide) dX4_held_10 ?_
      refine pn_top hK0 ?_
      refine pn_icmp_ge (tgt := 28) hx hb (by omega) (by omega) dX4_held_11 (by decide) (fun c1 => ?_) (fun c1 => ?_)
      · refine lv_iload_n hx hb dX4_held_28 rfl (lv_at hl 0 rfl) ?_
        exact pm_retI hx hb hlk hr hq hP hD hS dX4_held_29 (by rw [show i1 = K from by omega]; rfl) rfl
      · refine lv_iload_n hx hb dX4_held_14 rfl (lv_at hl 0 rfl) ?_
        refine lv_aload_n hx hb dX4_held_15 rfl (lv_at hl 2 rfl) ?_
        refine lv_iload_n hx hb dX4_held_16 rfl (lv_at hl 1 rfl) ?_
        refine pm_callI (n := 1) [.int (pc_sum (fun z9 => pc_held (g 1) N z9) i1)] hx hb hml hown hts hA hK (m_heldInAll l D h cI f g N i1 (by first | assumption | omega | rfl) (by first | assumption | omega | rfl) (by first | assumption | omega | rfl)) (lw_V q2451 q2453 qs50 q122 q2454) ⟨rfl, rfl⟩ (by decide +kernel) ⟨Nat.le_of_ble_eq_true rfl, Nat.le_of_ble_eq_true rfl⟩ hP hD hS rfl hl.1 rfl (Nat.le_of_ble_eq_true rfl) ⟨Nat.zero_le _, Nat.zero_le _⟩ dX4_held_17 (fun H locs hP hD hS => ?_)
        refine lv_iadd hx hb dX4_held_20 ?_
        refine lv_istore_n (lv' := [(1, .int ((pc_sum (fun z9 => pc_held (g 1) N z9) i1) + (pc_held (g 1) N i1))), (2, .int (nI i1)), (0, .ref (h 0))]) hx hb dX4_held_21 rfl hl (by decide) rfl (fun ls hl => ?_)
        refine lv_iinc (v := nI (i1 + 1)) (lv' := [(2, .int (nI (i1 + 1))), (1, .int ((pc_sum (fun z9 => pc_held (g 1) N z9) i1) + (pc_held (g 1) N i1))), (0, .ref (h 0))]) hx hb dX4_held_22 hl (k := 1) rfl (nI_1 _) (by decide) rfl (fun ls hl => ?_)
        refine lv_goto (tgt := 4) hx hb dX4_held_25 (by decide) ?_
        exact ih4 (i1 + 1) (by first | assumption | omega) (by omega) _ _ hP hD hS _ (lv_sub hl [1, 0, 2] rfl)
  exact hloop4 (K - 0 + 1) 0 (by first | assumption | omega) (by omega) _ _ hP hD hS _ (lv_sub hl [1, 0, 2] rfl)

set_option maxHeartbeats 4000000 in
theorem m_freeAfter (l : Launch) (D : va_G) (h : Nat → Nat) (cI : ClassId) (f : Nat → Int32) (g : Nat → Nat → Int32) (N : Nat) (S : Nat) (k : Nat) (hN : g 1 1 = nI N) (hN8 : N ≤ 8) (hS : S < 256) (hk : k < 4) : pm_C l yX4_freeAfter (ws_ yX4_freeAfter cX4_freeAfter 5 (some .int)) ({ frames := 3, cells := 0, slots := 0, locals := 66 } : Room) D h cI [.ref (h 0), .int (nI S), .int (nI k)] f g (some (.int (pc_after (g 1) N S k))) f g := by
  refine pm_enter (cc := cX4_freeAfter) (maxL := 5) (ret := (some .int)) (by decide) (Nat.le_of_ble_eq_true rfl) ?_
  intro p e s m below meth c A Qc ls hx hb hml hown hts hlk hA hK hP hD hS hr hq hl
  have hl : lv_has ls 5 [(0, .ref (h 0)), (1, .int (nI S)), (2, .int (nI k))] := hl
  refine lv_aload_n hx hb dX4_freeAfter_0 rfl (lv_at hl 0 rfl) ?_
  refine lv_iload_n hx hb dX4_freeAfter_1 rfl (lv_at hl 2 rfl) ?_
  refine pm_callI (n := 1) [] hx hb hml hown hts hA hK (m_free l D h cI f g N k (by first | assumption | omega | rfl) (by first | assumption | omega | rfl) (by first | assumption | omega | rfl)) (lw_V q2447 q2449 qs49 q122 q2450) ⟨rfl, rfl⟩ (by decide +kernel) ⟨Nat.le_of_ble_eq_true rfl, Nat.le_of_ble_eq_true rfl⟩ hP hD hS rfl hl.1 rfl (Nat.le_of_ble_eq_true rfl) ⟨Nat.zero_le _, Nat.zero_le _⟩ dX4_freeAfter_2 (fun H locs hP hD hS => ?_)
  refine lv_istore_n (lv' := [(3, .int (pc_free (g 1) N k)), (0, .ref (h 0)), (1, .int (nI S)), (2, .int (nI k))]) hx hb dX4_freeAfter_5 rfl hl (by decide) rfl (fun ls hl => ?_)
  refine lv_iconst (v := nI 0) hx hb dX4_freeAfter_6 (by decide) ?_
  refine lv_istore (lv' := [(4, .int (nI 0)), (3, .int (pc_free (g 1) N k)), (0, .ref (h 0)), (1, .int (nI S)), (2, .int (nI k))]) hx hb dX4_freeAfter_7 hl (by decide) rfl (fun ls hl => ?_)
  have hloop9 : ∀ (n9 : Nat) (i1 : Nat), i1 ≤ N → N - i1 < n9 → ∀ (H : Heap) (locs : List Loc), va_P D pc_Cl (pm_W h cI f g) H → va_D A (pm_W h cI f g) → va_S A s.heap H locs → ∀ ls : Array Slot, lv_has ls 5 [(3, .int (pc_acc (pc_free (g 1) N k) (fun z9 => if S.testBit z9 then pc_of (g 1) z9 (4 + k) else 0) i1)), (4, .int (nI i1)), (0, .ref (h 0)), (1, .int (nI S)), (2, .int (nI k))] → W p l e ({ frames := 3, cells := 0, slots := 0, locals := 66 } : Room) s m ([.ref (h 0), .int (nI S), .int (nI k)] : List Value).toArray below meth c H locs 0 0 (MQ below Qc ([.ref (h 0), .int (nI S), .int (nI k)] : List Value).toArray s 0 0 A) (F0 m 9 ls []) := by
    intro n9
    induction n9 with
    | zero => intro i1 hi1 hm; exact absurd hm (by omega)
    | succ n9 ih9 =>
      intro i1 hi1 hm9 H locs hP hD hS ls hl
      refine lv_iload hx hb dX4_freeAfter_9 (lv_at hl 1 rfl) ?_
      refine lv_aload_n hx hb dX4_freeAfter_11 rfl (lv_at hl 2 rfl) ?_
      refine va_get (D := D) (ci := 0) (v := .ref (h 1)) (C := RX4) (T := TX4) (N := 22) hx hb hts in_X4 hown hK hP 0 rfl rfl 1 (by decide) (hts _ q2483) (fun _ h9 => h9) rfl dX4_freeAfter_12 ?_
      refine lv_iconst (v := nI 1) hx hb dX4_freeAfter_15 (by decide) ?_
      refine pn_iald (e9 := 1) (f := g 1) hx hb hK hP 1 0 rfl rfl (by omega) (by decide) dX4_freeAfter_16 ?_
      refine pn_top hN ?_
      refine pn_icmp_ge (tgt := 51) hx hb (by omega) (by omega) dX4_freeAfter_17 (by decide) (fun c1 => ?_) (fun c1 => ?_)
      · refine lv_iload_n hx hb dX4_freeAfter_51 rfl (lv_at hl 0 rfl) ?_
        exact pm_retI hx hb hlk hr hq hP hD hS dX4_freeAfter_52 (by rw [show i1 = N from by omega]; rfl) rfl
      · refine lv_iload_n hx hb dX4_freeAfter_20 rfl (lv_at hl 0 rfl) ?_
        refine lv_iload_n hx hb dX4_freeAfter_21 rfl (lv_at hl 3 rfl) ?_
        refine lv_iload hx hb dX4_freeAfter_22 (lv_at hl 1 rfl) ?_
        refine pp_callS (n := 2) (rest := [.int (pc_acc (pc_free (g 1) N k) (fun z9 => if S.testBit z9 then pc_of (g 1) z9 (4 + k) else 0) i1)]) hx hb hml hown hts (m_has l S i1 (by first | assumption | omega | rfl) (by first | assumption | omega | rfl)) (lw_S q2467 q2468 q122 q2469) ⟨rfl, rfl⟩ (by decide +kernel) ⟨Nat.le_of_ble_eq_true rfl, Nat.le_of_ble_eq_true rfl⟩ rfl hl.1 rfl (Nat.le_of_ble_eq_true rfl) dX4_freeAfter_24 ⟨Nat.zero_le _, Nat.zero_le _⟩ ?_
        refine pb_if_eq (tgt := 42) hx hb dX4_freeAfter_27 (by decide) (fun c2 => ?_) (fun c2 => ?_)
        · refine lv_iconst (v := nI 0) hx hb dX4_freeAfter_42 (by decide) ?_
          refine lv_iadd hx hb dX4_freeAfter_43 ?_
          refine lv_istore_n (lv' := [(3, .int ((pc_acc (pc_free (g 1) N k) (fun z9 => if S.testBit z9 then pc_of (g 1) z9 (4 + k) else 0) i1) + (nI 0))), (4, .int (nI i1)), (0, .ref (h 0)), (1, .int (nI S)), (2, .int (nI k))]) hx hb dX4_freeAfter_44 rfl hl (by decide) rfl (fun ls hl => ?_)
          refine lv_iinc (v := nI (i1 + 1)) (lv' := [(4, .int (nI (i1 + 1))), (3, .int ((pc_acc (pc_free (g 1) N k) (fun z9 => if S.testBit z9 then pc_of (g 1) z9 (4 + k) else 0) i1) + (nI 0))), (0, .ref (h 0)), (1, .int (nI S)), (2, .int (nI k))]) hx hb dX4_freeAfter_45 hl (k := 1) rfl (nI_1 _) (by decide) rfl (fun ls hl => ?_)
          refine lv_goto (tgt := 9) hx hb dX4_freeAfter_48 (by decide) ?_
          have eL : (pc_acc (pc_free (g 1) N k) (fun z9 => if S.testBit z9 then pc_of (g 1) z9 (4 + k) else 0) i1) + (nI 0) = pc_acc (pc_free (g 1) N k) (fun z9 => if S.testBit z9 then pc_of (g 1) z9 (4 + k) else 0) (i1 + 1) := (by simp [pc_acc, nI_0, c1, c2])
          rw [eL] at hl
          exact ih9 (i1 + 1) (by first | assumption | omega) (by omega) _ _ hP hD hS _ (lv_sub hl [1, 0, 2, 3, 4] rfl)
        · refine lv_aload_n hx hb dX4_freeAfter_30 rfl (lv_at hl 2 rfl) ?_
          refine lv_iload hx hb dX4_freeAfter_31 (lv_at hl 1 rfl) ?_
          refine lv_iconst (v := nI 4) hx hb dX4_freeAfter_33 (by decide) ?_
          refine lv_iload_n hx hb dX4_freeAfter_34 rfl (lv_at hl 4 rfl) ?_
          refine pn_iadd hx hb dX4_freeAfter_35 ?_
          refine pm_callI (n := 2) [.int (pc_acc (pc_free (g 1) N k) (fun z9 => if S.testBit z9 then pc_of (g 1) z9 (4 + k) else 0) i1)] hx hb hml hown hts hA hK (m_of l D h cI f g i1 (4 + k) (by first | assumption | omega | rfl) (by first | assumption | omega | rfl)) (lw_V q2443 q2445 qs48 q122 q2446) ⟨rfl, rfl⟩ (by decide +kernel) ⟨Nat.le_of_ble_eq_true rfl, Nat.le_of_ble_eq_true rfl⟩ hP hD hS rfl hl.1 rfl (Nat.le_of_ble_eq_true rfl) ⟨Nat.zero_le _, Nat.zero_le _⟩ dX4_freeAfter_36 (fun H locs hP hD hS => ?_)
          refine lv_goto (tgt := 43) hx hb dX4_freeAfter_39 (by decide) ?_
          refine lv_iadd hx hb dX4_freeAfter_43 ?_
          refine lv_istore_n (lv' := [(3, .int ((pc_acc (pc_free (g 1) N k) (fun z9 => if S.testBit z9 then pc_of (g 1) z9 (4 + k) else 0) i1) + (pc_of (g 1) i1 (4 + k)))), (4, .int (nI i1)), (0, .ref (h 0)), (1, .int (nI S)), (2, .int (nI k))]) hx hb dX4_freeAfter_44 rfl hl (by decide) rfl (fun ls hl => ?_)
          refine lv_iinc (v := nI (i1 + 1)) (lv' := [(4, .int (nI (i1 + 1))), (3, .int ((pc_acc (pc_free (g 1) N k) (fun z9 => if S.testBit z9 then pc_of (g 1) z9 (4 + k) else 0) i1) + (pc_of (g 1) i1 (4 + k)))), (0, .ref (h 0)), (1, .int (nI S)), (2, .int (nI k))]) hx hb dX4_freeAfter_45 hl (k := 1) rfl (nI_1 _) (by decide) rfl (fun ls hl => ?_)
          refine lv_goto (tgt := 9) hx hb dX4_freeAfter_48 (by decide) ?_
          have eL : (pc_acc (pc_free (g 1) N k) (fun z9 => if S.testBit z9 then pc_of (g 1) z9 (4 + k) else 0) i1) + (pc_of (g 1) i1 (4 + k)) = pc_acc (pc_free (g 1) N k) (fun z9 => if S.testBit z9 then pc_of (g 1) z9 (4 + k) else 0) (i1 + 1) := (by simp [pc_acc, nI_0, c1, c2])
          rw [eL] at hl
          exact ih9 (i1 + 1) (by first | assumption | omega) (by omega) _ _ hP hD hS _ (lv_sub hl [1, 0, 2, 3, 4] rfl)
  exact hloop9 (N - 0 + 1) 0 (by first | assumption | omega) (by omega) _ _ hP hD hS _ (lv_sub hl [1, 0, 2, 3, 4] rfl)

set_option maxHeartbeats 4000000 in
theorem m_fits (l : Launch) (D : va_G) (h : Nat → Nat) (cI : ClassId) (f : Nat → Int32) (g : Nat → Nat → Int32) (K : Nat) (N : Nat) (o : Nat) (S : Nat) (hN : g 1 1 = nI N) (hN8 : N ≤ 8) (hK0 : g 1 0 = nI K) (hK4 : K ≤ 4) (ho : o < 8) (hS : S < 256) : pm_C l yX4_fits (ws_ yX4_fits cX4_fits 4 (some .boolean)) ({ frames := 4, cells := 0, slots := 0, locals := 90 } : Room) D h cI [.ref (h 0), .int (nI o), .int (nI S)] f g (some (.int (pc_b (pc_fits (g 1) K N o S)))) f g := by
  refine pm_enter (cc := cX4_fits) (maxL := 4) (ret := (some .boolean)) (by decide) (Nat.le_of_ble_eq_true rfl) ?_
  intro p e s m below meth c A Qc ls hx hb hml hown hts hlk hA hK hP hD hS hr hq hl
  have hl : lv_has ls 4 [(0, .ref (h 0)), (1, .int (nI o)), (2, .int (nI S))] := hl
  refine lv_iconst (v := nI 0) hx hb dX4_fits_0 (by decide) ?_
  refine lv_istore_n (lv' := [(3, .int (nI 0)), (0, .ref (h 0)), (1, .int (nI o)), (2, .int (nI S))]) hx hb dX4_fits_1 rfl hl (by decide) rfl (fun ls hl => ?_)
  have hloop2 : ∀ (n2 : Nat) (i1 : Nat), i1 ≤ K → (∀ z, z < i1 → pc_fitk (g 1) N o S z = true) → K - i1 < n2 → ∀ (H : Heap) (locs : List Loc), va_P D pc_Cl (pm_W h cI f g) H → va_D A (pm_W h cI f g) → va_S A s.heap H locs → ∀ ls : Array Slot, lv_has ls 4 [(3, .int (nI i1)), (0, .ref (h 0)), (1, .int (nI o)), (2, .int (nI S))] → W p l e ({ frames := 4, cells := 0, slots := 0, locals := 90 } : Room) s m ([.ref (h 0), .int (nI o), .int (nI S)] : List Value).toArray below meth c H locs 0 0 (MQ below Qc ([.ref (h 0), .int (nI o), .int (nI S)] : List Value).toArray s 0 0 A) (F0 m 2 ls []) := by
    intro n2
    induction n2 with
    | zero => intro i1 hi1 hp1 hm; exact absurd hm (by omega)
    | succ n2 ih2 =>
      intro i1 hi1 hp1 hm2 H locs hP hD hS ls hl
      refine lv_iload_n hx hb dX4_fits_2 rfl (lv_at hl 0 rfl) ?_
      refine lv_aload_n hx hb dX4_fits_3 rfl (lv_at hl 1 rfl) ?_
      refine va_get (D := D) (ci := 0) (v := .ref (h 1)) (C := RX4) (T := TX4) (N := 22) hx hb hts in_X4 hown hK hP 0 rfl rfl 1 (by decide) (hts _ q2483) (fun _ h9 => h9) rfl dX4_fits_4 ?_
      refine lv_iconst (v := nI 0) hx hb dX4_fits_7 (by decide) ?_
      refine pn_iald (e9 := 0) (f := g 1) hx hb hK hP 1 0 rfl rfl (by omega) (by decide) dX4_fits_8 ?_
      refine pn_top hK0 ?_
      refine pn_icmp_ge (tgt := 35) hx hb (by omega) (by omega) dX4_fits_9 (by decide) (fun c1 => ?_) (fun c1 => ?_)
      · refine lv_iconst (v := nI 1) hx hb dX4_fits_35 (by decide) ?_
        exact pm_retZ hx hb hlk hr hq hP hD hS dX4_fits_36 (by rw [pc_fits, pc_all_t (fun z hz => hp1 z (by omega))]; rfl) rfl
      · refine lv_aload_n hx hb dX4_fits_12 rfl (lv_at hl 1 rfl) ?_
        refine lv_iload_n hx hb dX4_fits_13 rfl (lv_at hl 2 rfl) ?_
        refine lv_iload_n hx hb dX4_fits_14 rfl (lv_at hl 0 rfl) ?_
        refine pm_callI (n := 2) [] hx hb hml hown hts hA hK (m_needOf l D h cI f g o i1 (by first | assumption | omega | rfl) (by first | assumption | omega | rfl)) (lw_V q2474 q2476 qs55 q122 q2477) ⟨rfl, rfl⟩ (by decide +kernel) ⟨Nat.le_of_ble_eq_true rfl, Nat.le_of_ble_eq_true rfl⟩ hP hD hS rfl hl.1 rfl (Nat.le_of_ble_eq_true rfl) ⟨Nat.zero_le _, Nat.zero_le _⟩ dX4_fits_15 (fun H locs hP hD hS => ?_)
        refine lv_aload_n hx hb dX4_fits_18 rfl (lv_at hl 1 rfl) ?_
        refine lv_iload_n hx hb dX4_fits_19 rfl (lv_at hl 3 rfl) ?_
        refine lv_iload_n hx hb dX4_fits_20 rfl (lv_at hl 0 rfl) ?_
        refine pm_callI (n := 2) [.int (pc_need (g 1) o i1)] hx hb hml hown hts hA hK (m_freeAfter l D h cI f g N S i1 (by first | assumption | omega | rfl) (by first | assumption | omega | rfl) (by first | assumption | omega | rfl) (by first | assumption | omega | rfl)) (lw_V q2478 q2480 qs56 q122 q2481) ⟨rfl, rfl⟩ (by decide +kernel) ⟨Nat.le_of_ble_eq_true rfl, Nat.le_of_ble_eq_true rfl⟩ hP hD hS rfl hl.1 rfl (Nat.le_of_ble_eq_true rfl) ⟨Nat.zero_le _, Nat.zero_le _⟩ dX4_fits_21 (fun H locs hP hD hS => ?_)
        refine lv_icmp_le (tgt := 29) hx hb dX4_fits_24 (by decide) (fun c2 => ?_) (fun c2 => ?_)
        · refine lv_iinc (v := nI (i1 + 1)) (lv' := [(3, .int (nI (i1 + 1))), (0, .ref (h 0)), (1, .int (nI o)), (2, .int (nI S))]) hx hb dX4_fits_29 hl (k := 0) rfl (nI_1 _) (by decide) rfl (fun ls hl => ?_)
          refine lv_goto (tgt := 2) hx hb dX4_fits_32 (by decide) ?_
          exact ih2 (i1 + 1) (by first | assumption | omega) (lt_s hp1 (by simp [pc_fitk, c2])) (by omega) _ _ hP hD hS _ (lv_sub hl [0, 1, 2, 3] rfl)
        · refine lv_iconst (v := nI 0) hx hb dX4_fits_27 (by decide) ?_
          exact pm_retZ hx hb hlk hr hq hP hD hS dX4_fits_28 (by rw [pc_fits, pc_all_f (i := i1) (by omega) (by simp [pc_fitk, c2])]; rfl) rfl
  exact hloop2 (K - 0 + 1) 0 (by first | assumption | omega) lt_0 (by omega) _ _ hP hD hS _ (lv_sub hl [0, 1, 2, 3] rfl)

set_option maxHeartbeats 4000000 in
theorem m_nextIn (l : Launch) (D : va_G) (h : Nat → Nat) (cI : ClassId) (f : Nat → Int32) (g : Nat → Nat → Int32) (K : Nat) (N : Nat) (S : Nat) (hN : g 1 1 = nI N) (hN8 : N ≤ 8) (hK0 : g 1 0 = nI K) (hK4 : K ≤ 4) (hS : S < 256) : pm_C l yX4_nextIn (ws_ yX4_nextIn cX4_nextIn 3 (some .int)) ({ frames := 5, cells := 0, slots := 0, locals := 113 } : Room) D h cI [.ref (h 0), .int (nI S)] f g (some (.int (pc_nx (pc_next (g 1) K N S) N))) f g := by
  refine pm_enter (cc := cX4_nextIn) (maxL := 3) (ret := (some .int)) (by decide) (Nat.le_of_ble_eq_true rfl) ?_
  intro p e s m below meth c A Qc ls hx hb hml hown hts hlk hA hK hP hD hS hr hq hl
  have hl : lv_has ls 3 [(0, .ref (h 0)), (1, .int (nI S))] := hl
  refine lv_iconst (v := nI 0) hx hb dX4_nextIn_0 (by decide) ?_
  refine lv_istore_n (lv' := [(2, .int (nI 0)), (0, .ref (h 0)), (1, .int (nI S))]) hx hb dX4_nextIn_1 rfl hl (by decide) rfl (fun ls hl => ?_)
  have hloop2 : ∀ (n2 : Nat) (i1 : Nat), i1 ≤ N → (∀ z, z < i1 → pc_nextp (g 1) K N S z = false) → N - i1 < n2 → ∀ (H : Heap) (locs : List Loc), va_P D pc_Cl (pm_W h cI f g) H → va_D A (pm_W h cI f g) → va_S A s.heap H locs → ∀ ls : Array Slot, lv_has ls 3 [(2, .int (nI i1)), (0, .ref (h 0)), (1, .int (nI S))] → W p l e ({ frames := 5, cells := 0, slots := 0, locals := 113 } : Room) s m ([.ref (h 0), .int (nI S)] : List Value).toArray below meth c H locs 0 0 (MQ below Qc ([.ref (h 0), .int (nI S)] : List Value).toArray s 0 0 A) (F0 m 2 ls []) := by
    intro n2
    induction n2 with
    | zero => intro i1 hi1 hp1 hm; exact absurd hm (by omega)
    | succ n2 ih2 =>
      intro i1 hi1 hp1 hm2 H locs hP hD hS ls hl
      refine lv_iload_n hx hb dX4_nextIn_2 rfl (lv_at hl 0 rfl) ?_
      refine lv_aload_n hx hb dX4_nextIn_3 rfl (lv_at hl 1 rfl) ?_
      refine va_get (D := D) (ci := 0) (v := .ref (h 1)) (C := RX4) (T := TX4) (N := 22) hx hb hts in_X4 hown hK hP 0 rfl rfl 1 (by decide) (hts _ q2483) (fun _ h9 => h9) rfl dX4_nextIn_4 ?_
      refine lv_iconst (v := nI 1) hx hb dX4_nextIn_7 (by decide) ?_
      refine pn_iald (e9 := 1) (f := g 1) hx hb hK hP 1 0 rfl rfl (by omega) (by decide) dX4_nextIn_8 ?_
      refine pn_top hN ?_
      refine pn_icmp_ge (tgt := 37) hx hb (by omega) (by omega) dX4_nextIn_9 (by decide) (fun c1 => ?_) (fun c1 => ?_)
      · refine lv_iconst (v := -1) hx hb dX4_nextIn_37 (by decide) ?_
        exact pm_retI hx hb hlk hr hq hP hD hS dX4_nextIn_38 (by rw [pc_next, pc_fst_no (fun z hz => hp1 z (by omega)), pc_nx_no (by omega)]) rfl
      · refine lv_iload_n hx hb dX4_nextIn_12 rfl (lv_at hl 2 rfl) ?_
        refine lv_iload_n hx hb dX4_nextIn_13 rfl (lv_at hl 0 rfl) ?_
        refine pp_callS (n := 2) (rest := []) hx hb hml hown hts (m_has l S i1 (by first | assumption | omega | rfl) (by first | assumption | omega | rfl)) (lw_S q2467 q2468 q122 q2469) ⟨rfl, rfl⟩ (by decide +kernel) ⟨Nat.le_of_ble_eq_true rfl, Nat.le_of_ble_eq_true rfl⟩ rfl hl.1 rfl (Nat.le_of_ble_eq_true rfl) dX4_nextIn_14 ⟨Nat.zero_le _, Nat.zero_le _⟩ ?_
        refine pb_if_ne (tgt := 31) hx hb dX4_nextIn_17 (by decide) (fun c2 => ?_) (fun c2 => ?_)
        · refine lv_iinc (v := nI (i1 + 1)) (lv' := [(2, .int (nI (i1 + 1))), (0, .ref (h 0)), (1, .int (nI S))]) hx hb dX4_nextIn_31 hl (k := 0) rfl (nI_1 _) (by decide) rfl (fun ls hl => ?_)
          refine lv_goto (tgt := 2) hx hb dX4_nextIn_34 (by decide) ?_
          exact ih2 (i1 + 1) (by first | assumption | omega) (lt_s hp1 (by simp [pc_nextp, c1, c2])) (by omega) _ _ hP hD hS _ (lv_sub hl [0, 1, 2] rfl)
        · refine lv_aload_n hx hb dX4_nextIn_20 rfl (lv_at hl 1 rfl) ?_
          refine lv_iload_n hx hb dX4_nextIn_21 rfl (lv_at hl 0 rfl) ?_
          refine lv_iload_n hx hb dX4_nextIn_22 rfl (lv_at hl 2 rfl) ?_
          refine pm_callI (n := 2) [] hx hb hml hown hts hA hK (m_fits l D h cI f g K N i1 S (by first | assumption | omega | rfl) (by first | assumption | omega | rfl) (by first | assumption | omega | rfl) (by first | assumption | omega | rfl) (by first | assumption | omega | rfl) (by first | assumption | omega | rfl)) (lw_V q2470 q2472 qs54 q122 q2473) ⟨rfl, rfl⟩ (by decide +kernel) ⟨Nat.le_of_ble_eq_true rfl, Nat.le_of_ble_eq_true rfl⟩ hP hD hS rfl hl.1 rfl (Nat.le_of_ble_eq_true rfl) ⟨Nat.zero_le _, Nat.zero_le _⟩ dX4_nextIn_23 (fun H locs hP hD hS => ?_)
          refine pb_if_eq (tgt := 31) hx hb dX4_nextIn_26 (by decide) (fun c3 => ?_) (fun c3 => ?_)
          · refine lv_iinc (v := nI (i1 + 1)) (lv' := [(2, .int (nI (i1 + 1))), (0, .ref (h 0)), (1, .int (nI S))]) hx hb dX4_nextIn_31 hl (k := 0) rfl (nI_1 _) (by decide) rfl (fun ls hl => ?_)
            refine lv_goto (tgt := 2) hx hb dX4_nextIn_34 (by decide) ?_
            exact ih2 (i1 + 1) (by first | assumption | omega) (lt_s hp1 (by simp [pc_nextp, c1, c2, c3])) (by omega) _ _ hP hD hS _ (lv_sub hl [0, 1, 2] rfl)
          · refine lv_iload_n hx hb dX4_nextIn_29 rfl (lv_at hl 0 rfl) ?_
            exact pm_retI hx hb hlk hr hq hP hD hS dX4_nextIn_30 (by rw [pc_next, pc_fst_at (i := i1) (by omega) hp1 (by simp [pc_nextp, c1, c2, c3]), pc_nx_lt (by omega)]) rfl
  exact hloop2 (N - 0 + 1) 0 (by first | assumption | omega) lt_0 (by omega) _ _ hP hD hS _ (lv_sub hl [0, 1, 2] rfl)

set_option maxHeartbeats 4000000 in
theorem m_firstOnes (l : Launch) (D : va_G) (h : Nat → Nat) (cI : ClassId) (f : Nat → Int32) (g : Nat → Nat → Int32) (K : Nat) (N : Nat) (j : Nat) (hN : g 1 1 = nI N) (hN8 : N ≤ 8) (hK0 : g 1 0 = nI K) (hK4 : K ≤ 4) (hj : j ≤ 8) : pm_C l yX4_firstOnes (ws_ yX4_firstOnes cX4_firstOnes 5 (some .int)) ({ frames := 6, cells := 0, slots := 0, locals := 135 } : Room) D h cI [.ref (h 0), .int (nI j)] f g (some (.int (nI (pc_ones (g 1) K N j)))) f g := by
  refine pm_enter (cc := cX4_firstOnes) (maxL := 5) (ret := (some .int)) (by decide) (Nat.le_of_ble_eq_true rfl) ?_
  intro p e s m below meth c A Qc ls hx hb hml hown hts hlk hA hK hP hD hS hr hq hl
  have hl : lv_has ls 5 [(0, .ref (h 0)), (1, .int (nI j))] := hl
  refine lv_iconst (v := nI 0) hx hb dX4_firstOnes_0 (by decide) ?_
  refine lv_istore_n (lv' := [(2, .int (nI 0)), (0, .ref (h 0)), (1, .int (nI j))]) hx hb dX4_firstOnes_1 rfl hl (by decide) rfl (fun ls hl => ?_)
  refine lv_iconst (v := nI 0) hx hb dX4_firstOnes_2 (by decide) ?_
  refine lv_istore_n (lv' := [(3, .int (nI 0)), (2, .int (nI 0)), (0, .ref (h 0)), (1, .int (nI j))]) hx hb dX4_firstOnes_3 rfl hl (by decide) rfl (fun ls hl => ?_)
  have hloop4 : ∀ (n4 : Nat) (i1 : Nat), i1 ≤ j → j - i1 < n4 → ∀ (H : Heap) (locs : List Loc), va_P D pc_Cl (pm_W h cI f g) H → va_D A (pm_W h cI f g) → va_S A s.heap H locs → ∀ ls : Array Slot, lv_has ls 5 [(2, .int (nI (pc_ones (g 1) K N i1))), (3, .int (nI i1)), (0, .ref (h 0)), (1, .int (nI j))] → W p l e ({ frames := 6, cells := 0, slots := 0, locals := 135 } : Room) s m ([.ref (h 0), .int (nI j)] : List Value).toArray below meth c H locs 0 0 (MQ below Qc ([.ref (h 0), .int (nI j)] : List Value).toArray s 0 0 A) (F0 m 4 ls []) := by
    intro n4
    induction n4 with
    | zero => intro i1 hi1 hm; exact absurd hm (by omega)
    | succ n4 ih4 =>
      intro i1 hi1 hm4 H locs hP hD hS ls hl
      refine lv_iload_n hx hb dX4_firstOnes_4 rfl (lv_at hl 1 rfl) ?_
      refine lv_iload_n hx hb dX4_firstOnes_5 rfl (lv_at hl 3 rfl) ?_
      refine pn_icmp_ge (tgt := 37) hx hb (by omega) (by omega) dX4_firstOnes_6 (by decide) (fun c1 => ?_) (fun c1 => ?_)
      · refine lv_iload_n hx hb dX4_firstOnes_37 rfl (lv_at hl 0 rfl) ?_
        exact pm_retI hx hb hlk hr hq hP hD hS dX4_firstOnes_38 (by rw [show i1 = j from by omega]) rfl
      · refine lv_aload_n hx hb dX4_firstOnes_9 rfl (lv_at hl 2 rfl) ?_
        refine lv_iload_n hx hb dX4_firstOnes_10 rfl (lv_at hl 0 rfl) ?_
        refine pm_callI (n := 1) [] hx hb hml hown hts hA hK (m_nextIn l D h cI f g K N (pc_ones (g 1) K N i1) (by first | assumption | omega | rfl) (by first | assumption | omega | rfl) (by first | assumption | omega | rfl) (by first | assumption | omega | rfl) (pc_ones_256 _ hN8 _)) (lw_V q2463 q2465 qs53 q122 q2466) ⟨rfl, rfl⟩ (by decide +kernel) ⟨Nat.le_of_ble_eq_true rfl, Nat.le_of_ble_eq_true rfl⟩ hP hD hS rfl hl.1 rfl (Nat.le_of_ble_eq_true rfl) ⟨Nat.zero_le _, Nat.zero_le _⟩ dX4_firstOnes_11 (fun H locs hP hD hS => ?_)
        refine lv_istore (lv' := [(4, .int (pc_nx (pc_next (g 1) K N (pc_ones (g 1) K N i1)) N)), (2, .int (nI (pc_ones (g 1) K N i1))), (3, .int (nI i1)), (0, .ref (h 0)), (1, .int (nI j))]) hx hb dX4_firstOnes_14 hl (by decide) rfl (fun ls hl => ?_)
        refine lv_iload hx hb dX4_firstOnes_16 (lv_at hl 0 rfl) ?_
        refine lv_iconst (v := -1) hx hb dX4_firstOnes_18 (by decide) ?_
        refine lv_icmp_ne (tgt := 24) hx hb dX4_firstOnes_19 (by decide) (fun c2 => ?_) (fun c2 => ?_)
        · have hlt : pc_next (g 1) K N (pc_ones (g 1) K N i1) < N := pc_nx_ne c2
          have env : pc_nx (pc_next (g 1) K N (pc_ones (g 1) K N i1)) N = nI (pc_next (g 1) K N (pc_ones (g 1) K N i1)) := pc_nx_lt hlt
          rw [env] at hl
          refine lv_iload_n hx hb dX4_firstOnes_24 rfl (lv_at hl 1 rfl) ?_
          refine lv_iconst (v := nI 1) hx hb dX4_firstOnes_25 (by decide) ?_
          refine lv_iload hx hb dX4_firstOnes_26 (lv_at hl 0 rfl) ?_
          refine lv_ishl hx hb dX4_firstOnes_28 ?_
          refine pn_top (y := nI (1 <<< (pc_next (g 1) K N (pc_ones (g 1) K N i1)))) (pc_shl1 (by omega)) ?_
          refine lv_ior hx hb dX4_firstOnes_29 ?_
          refine pn_top (y := nI ((pc_ones (g 1) K N i1) ||| (1 <<< (pc_next (g 1) K N (pc_ones (g 1) K N i1))))) (pc_ior (pc_ones_256 _ hN8 _) (pc_shl1_lt (by omega))) ?_
          refine lv_istore_n (lv' := [(2, .int (nI ((pc_ones (g 1) K N i1) ||| (1 <<< (pc_next (g 1) K N (pc_ones (g 1) K N i1)))))), (4, .int (nI (pc_next (g 1) K N (pc_ones (g 1) K N i1)))), (3, .int (nI i1)), (0, .ref (h 0)), (1, .int (nI j))]) hx hb dX4_firstOnes_30 rfl hl (by decide) rfl (fun ls hl => ?_)
          refine lv_iinc (v := nI (i1 + 1)) (lv' := [(3, .int (nI (i1 + 1))), (2, .int (nI ((pc_ones (g 1) K N i1) ||| (1 <<< (pc_next (g 1) K N (pc_ones (g 1) K N i1)))))), (4, .int (nI (pc_next (g 1) K N (pc_ones (g 1) K N i1)))), (0, .ref (h 0)), (1, .int (nI j))]) hx hb dX4_firstOnes_31 hl (k := 2) rfl (nI_1 _) (by decide) rfl (fun ls hl => ?_)
          refine lv_goto (tgt := 4) hx hb dX4_firstOnes_34 (by decide) ?_
          have eL : nI ((pc_ones (g 1) K N i1) ||| (1 <<< (pc_next (g 1) K N (pc_ones (g 1) K N i1)))) = nI (pc_ones (g 1) K N (i1 + 1)) := (by rw [pc_ones, if_pos hlt])
          rw [eL] at hl
          exact ih4 (i1 + 1) (by first | assumption | omega) (by omega) _ _ hP hD hS _ (lv_sub hl [1, 0, 3, 4] rfl)
        · refine lv_iload_n hx hb dX4_firstOnes_22 rfl (lv_at hl 1 rfl) ?_
          exact pm_retI hx hb hlk hr hq hP hD hS dX4_firstOnes_23 (by rw [pc_ones_stop (pc_nx_eq (by omega) c2) (by omega : i1 ≤ j)]) rfl
  exact hloop4 (j - 0 + 1) 0 (by first | assumption | omega) (by omega) _ _ hP hD hS _ (lv_sub hl [1, 0, 2, 3] rfl)

set_option maxHeartbeats 4000000 in
theorem m_isSafe (l : Launch) (D : va_G) (h : Nat → Nat) (cI : ClassId) (f : Nat → Int32) (g : Nat → Nat → Int32) (K : Nat) (N : Nat) (hN : g 1 1 = nI N) (hN8 : N ≤ 8) (hK0 : g 1 0 = nI K) (hK4 : K ≤ 4) : pm_C l yX4_isSafe (ws_ yX4_isSafe cX4_isSafe 1 (some .boolean)) ({ frames := 7, cells := 0, slots := 0, locals := 159 } : Room) D h cI [.ref (h 0)] f g (some (.int (pc_b (pc_safe (g 1) K N)))) f g := by
  refine pm_enter (cc := cX4_isSafe) (maxL := 1) (ret := (some .boolean)) (by decide) (Nat.le_of_ble_eq_true rfl) ?_
  intro p e s m below meth c A Qc ls hx hb hml hown hts hlk hA hK hP hD hS hr hq hl
  have hl : lv_has ls 1 [(0, .ref (h 0))] := hl
  have h256 := pc_ones_256 (g 1) (K := K) hN8 N
  have hp2 := pc_two hN8
  refine lv_aload_n hx hb dX4_isSafe_0 rfl (lv_at hl 0 rfl) ?_
  refine lv_aload_n hx hb dX4_isSafe_1 rfl (lv_at hl 0 rfl) ?_
  refine va_get (D := D) (ci := 0) (v := .ref (h 1)) (C := RX4) (T := TX4) (N := 22) hx hb hts in_X4 hown hK hP 0 rfl rfl 1 (by decide) (hts _ q2483) (fun _ h9 => h9) rfl dX4_isSafe_2 ?_
  refine lv_iconst (v := nI 1) hx hb dX4_isSafe_5 (by decide) ?_
  refine pn_iald (e9 := 1) (f := g 1) hx hb hK hP 1 0 rfl rfl (by omega) (by decide) dX4_isSafe_6 ?_
  refine pn_top hN ?_
  refine pm_callI (n := 1) [] hx hb hml hown hts hA hK (m_firstOnes l D h cI f g K N N (by first | assumption | omega | rfl) (by first | assumption | omega | rfl) (by first | assumption | omega | rfl) (by first | assumption | omega | rfl) (by first | assumption | omega | rfl)) (lw_V q2459 q2461 qs52 q122 q2462) ⟨rfl, rfl⟩ (by decide +kernel) ⟨Nat.le_of_ble_eq_true rfl, Nat.le_of_ble_eq_true rfl⟩ hP hD hS rfl hl.1 rfl (Nat.le_of_ble_eq_true rfl) ⟨Nat.zero_le _, Nat.zero_le _⟩ dX4_isSafe_7 (fun H locs hP hD hS => ?_)
  refine lv_iconst (v := nI 1) hx hb dX4_isSafe_10 (by decide) ?_
  refine lv_aload_n hx hb dX4_isSafe_11 rfl (lv_at hl 0 rfl) ?_
  refine va_get (D := D) (ci := 0) (v := .ref (h 1)) (C := RX4) (T := TX4) (N := 22) hx hb hts in_X4 hown hK hP 0 rfl rfl 1 (by decide) (hts _ q2483) (fun _ h9 => h9) rfl dX4_isSafe_12 ?_
  refine lv_iconst (v := nI 1) hx hb dX4_isSafe_15 (by decide) ?_
  refine pn_iald (e9 := 1) (f := g 1) hx hb hK hP 1 0 rfl rfl (by omega) (by decide) dX4_isSafe_16 ?_
  refine pn_top hN ?_
  refine lv_ishl hx hb dX4_isSafe_17 ?_
  refine pn_top (y := nI (2 ^ N)) (pc_shlN hN8) ?_
  refine lv_iconst (v := nI 1) hx hb dX4_isSafe_18 (by decide) ?_
  refine lv_isub hx hb dX4_isSafe_19 ?_
  refine pn_top (y := nI (2 ^ N - 1)) (pk_sub (Nat.one_le_two_pow)) ?_
  refine pn_icmp_ne (tgt := 27) hx hb (by omega) (by omega) dX4_isSafe_20 (by decide) (fun c1 => ?_) (fun c1 => ?_)
  · refine lv_iconst (v := nI 0) hx hb dX4_isSafe_27 (by decide) ?_
    exact pm_retZ hx hb hlk hr hq hP hD hS dX4_isSafe_28 (by simp [pc_safe, pc_b, c1]; try rfl) rfl
  · refine lv_iconst (v := nI 1) hx hb dX4_isSafe_23 (by decide) ?_
    refine lv_goto (tgt := 28) hx hb dX4_isSafe_24 (by decide) ?_
    exact pm_retZ hx hb hlk hr hq hP hD hS dX4_isSafe_28 (by simp [pc_safe, pc_b, c1]; try rfl) rfl

set_option maxHeartbeats 4000000 in
theorem m_isWaiting (l : Launch) (D : va_G) (h : Nat → Nat) (cI : ClassId) (f : Nat → Int32) (g : Nat → Nat → Int32) (o : Nat) (ho : o < 8) : pm_C l yX4_isWaiting (ws_ yX4_isWaiting cX4_isWaiting 2 (some .boolean)) ({ frames := 1, cells := 0, slots := 0, locals := 22 } : Room) D h cI [.ref (h 0), .int (nI o)] f g (some (.int (pc_b (pc_wait (g 1) o)))) f g := by
  refine pm_enter (cc := cX4_isWaiting) (maxL := 2) (ret := (some .boolean)) (by decide) (Nat.le_of_ble_eq_true rfl) ?_
  intro p e s m below meth c A Qc ls hx hb hml hown hts hlk hA hK hP hD hS hr hq hl
  have hl : lv_has ls 2 [(0, .ref (h 0)), (1, .int (nI o))] := hl
  refine lv_aload_n hx hb dX4_isWaiting_0 rfl (lv_at hl 0 rfl) ?_
  refine lv_iload_n hx hb dX4_isWaiting_1 rfl (lv_at hl 1 rfl) ?_
  refine lv_bipush (v := nI 8) hx hb dX4_isWaiting_2 (by decide) ?_
  refine pm_callI (n := 2) [] hx hb hml hown hts hA hK (m_of l D h cI f g o 8 (by first | assumption | omega | rfl) (by first | assumption | omega | rfl)) (lw_V q2443 q2445 qs48 q122 q2446) ⟨rfl, rfl⟩ (by decide +kernel) ⟨Nat.le_of_ble_eq_true rfl, Nat.le_of_ble_eq_true rfl⟩ hP hD hS rfl hl.1 rfl (Nat.le_of_ble_eq_true rfl) ⟨Nat.zero_le _, Nat.zero_le _⟩ dX4_isWaiting_4 (fun H locs hP hD hS => ?_)
  refine lv_if_le (tgt := 14) hx hb dX4_isWaiting_7 (by decide) (fun c1 => ?_) (fun c1 => ?_)
  · refine lv_iconst (v := nI 0) hx hb dX4_isWaiting_14 (by decide) ?_
    exact pm_retZ hx hb hlk hr hq hP hD hS dX4_isWaiting_15 (by simp [pc_b, pc_wait, c1]) rfl
  · refine lv_iconst (v := nI 1) hx hb dX4_isWaiting_10 (by decide) ?_
    refine lv_goto (tgt := 15) hx hb dX4_isWaiting_11 (by decide) ?_
    exact pm_retZ hx hb hlk hr hq hP hD hS dX4_isWaiting_15 (by simp [pc_b, pc_wait, c1]) rfl

set_option maxHeartbeats 4000000 in
theorem m_waiting (l : Launch) (D : va_G) (h : Nat → Nat) (cI : ClassId) (f : Nat → Int32) (g : Nat → Nat → Int32) (N : Nat) (hN : g 1 1 = nI N) (hN8 : N ≤ 8) : pm_C l yX4_waiting (ws_ yX4_waiting cX4_waiting 3 (some .int)) ({ frames := 2, cells := 0, slots := 0, locals := 43 } : Room) D h cI [.ref (h 0)] f g (some (.int (nI (pc_waiting (g 1) N)))) f g := by
  refine pm_enter (cc := cX4_waiting) (maxL := 3) (ret := (some .int)) (by decide) (Nat.le_of_ble_eq_true rfl) ?_
  intro p e s m below meth c A Qc ls hx hb hml hown hts hlk hA hK hP hD hS hr hq hl
  have hl : lv_has ls 3 [(0, .ref (h 0))] := hl
  refine lv_iconst (v := nI 0) hx hb dX4_waiting_0 (by decide) ?_
  refine lv_istore_n (lv' := [(1, .int (nI 0)), (0, .ref (h 0))]) hx hb dX4_waiting_1 rfl hl (by decide) rfl (fun ls hl => ?_)
  refine lv_iconst (v := nI 0) hx hb dX4_waiting_2 (by decide) ?_
  refine lv_istore_n (lv' := [(2, .int (nI 0)), (1, .int (nI 0)), (0, .ref (h 0))]) hx hb dX4_waiting_3 rfl hl (by decide) rfl (fun ls hl => ?_)
  have hloop4 : ∀ (n4 : Nat) (i1 : Nat), i1 ≤ N → N - i1 < n4 → ∀ (H : Heap) (locs : List Loc), va_P D pc_Cl (pm_W h cI f g) H → va_D A (pm_W h cI f g) → va_S A s.heap H locs → ∀ ls : Array Slot, lv_has ls 3 [(1, .int (nI (pc_cnt (pc_wait (g 1)) i1))), (2, .int (nI i1)), (0, .ref (h 0))] → W p l e ({ frames := 2, cells := 0, slots := 0, locals := 43 } : Room) s m ([.ref (h 0)] : List Value).toArray below meth c H locs 0 0 (MQ below Qc ([.ref (h 0)] : List Value).toArray s 0 0 A) (F0 m 4 ls []) := by
    intro n4
    induction n4 with
    | zero => intro i1 hi1 hm; exact absurd hm (by omega)
    | succ n4 ih4 =>
      intro i1 hi1 hm4 H locs hP hD hS ls hl
      refine lv_iload_n hx hb dX4_waiting_4 rfl (lv_at hl 1 rfl) ?_
      refine lv_aload_n hx hb dX4_waiting_5 rfl (lv_at hl 2 rfl) ?_
      refine va_get (D := D) (ci := 0) (v := .ref (h 1)) (C := RX4) (T := TX4) (N := 22) hx hb hts in_X4 hown hK hP 0 rfl rfl 1 (by decide) (hts _ q2483) (fun _ h9 => h9) rfl dX4_waiting_6 ?_
      refine lv_iconst (v := nI 1) hx hb dX4_waiting_9 (by decide) ?_
      refine pn_iald (e9 := 1) (f := g 1) hx hb hK hP 1 0 rfl rfl (by omega) (by decide) dX4_waiting_10 ?_
      refine pn_top hN ?_
      refine pn_icmp_ge (tgt := 31) hx hb (by omega) (by omega) dX4_waiting_11 (by decide) (fun c1 => ?_) (fun c1 => ?_)
      · refine lv_iload_n hx hb dX4_waiting_31 rfl (lv_at hl 0 rfl) ?_
        exact pm_retI hx hb hlk hr hq hP hD hS dX4_waiting_32 (by rw [show i1 = N from by omega]; rfl) rfl
      · refine lv_iload_n hx hb dX4_waiting_14 rfl (lv_at hl 0 rfl) ?_
        refine lv_aload_n hx hb dX4_waiting_15 rfl (lv_at hl 2 rfl) ?_
        refine lv_iload_n hx hb dX4_waiting_16 rfl (lv_at hl 1 rfl) ?_
        refine pm_callI (n := 1) [.int (nI (pc_cnt (pc_wait (g 1)) i1))] hx hb hml hown hts hA hK (m_isWaiting l D h cI f g i1 (by first | assumption | omega | rfl)) (lw_V q2653 q2655 qs64 q122 q2656) ⟨rfl, rfl⟩ (by decide +kernel) ⟨Nat.le_of_ble_eq_true rfl, Nat.le_of_ble_eq_true rfl⟩ hP hD hS rfl hl.1 rfl (Nat.le_of_ble_eq_true rfl) ⟨Nat.zero_le _, Nat.zero_le _⟩ dX4_waiting_17 (fun H locs hP hD hS => ?_)
        refine pp_callS (n := 1) (rest := [.int (nI (pc_cnt (pc_wait (g 1)) i1))]) hx hb hml hown hts (m_truth l (pc_wait (g 1) i1)) (lw_S q2630 q2631 q122 q2632) ⟨rfl, rfl⟩ (by decide +kernel) ⟨Nat.le_of_ble_eq_true rfl, Nat.le_of_ble_eq_true rfl⟩ rfl hl.1 rfl (Nat.le_of_ble_eq_true rfl) dX4_waiting_20 ⟨Nat.zero_le _, Nat.zero_le _⟩ ?_
        refine lv_iadd hx hb dX4_waiting_23 ?_
        refine lv_istore_n (lv' := [(1, .int ((nI (pc_cnt (pc_wait (g 1)) i1)) + (pc_b (pc_wait (g 1) i1)))), (2, .int (nI i1)), (0, .ref (h 0))]) hx hb dX4_waiting_24 rfl hl (by decide) rfl (fun ls hl => ?_)
        refine lv_iinc (v := nI (i1 + 1)) (lv' := [(2, .int (nI (i1 + 1))), (1, .int ((nI (pc_cnt (pc_wait (g 1)) i1)) + (pc_b (pc_wait (g 1) i1)))), (0, .ref (h 0))]) hx hb dX4_waiting_25 hl (k := 1) rfl (nI_1 _) (by decide) rfl (fun ls hl => ?_)
        refine lv_goto (tgt := 4) hx hb dX4_waiting_28 (by decide) ?_
        have eL : (nI (pc_cnt (pc_wait (g 1)) i1)) + (pc_b (pc_wait (g 1) i1)) = nI (pc_cnt (pc_wait (g 1)) (i1 + 1)) := (pc_cnt_step _ _)
        rw [eL] at hl
        exact ih4 (i1 + 1) (by first | assumption | omega) (by omega) _ _ hP hD hS _ (lv_sub hl [1, 0, 2] rfl)
  exact hloop4 (N - 0 + 1) 0 (by first | assumption | omega) (by omega) _ _ hP hD hS _ (lv_sub hl [1, 0, 2] rfl)

set_option maxHeartbeats 4000000 in
theorem m_placeOf (l : Launch) (D : va_G) (h : Nat → Nat) (cI : ClassId) (f : Nat → Int32) (g : Nat → Nat → Int32) (N : Nat) (o : Nat) (hN : g 1 1 = nI N) (hN8 : N ≤ 8) (ho : o < 8) : pm_C l yX4_placeOf (ws_ yX4_placeOf cX4_placeOf 4 (some .int)) ({ frames := 2, cells := 0, slots := 0, locals := 43 } : Room) D h cI [.ref (h 0), .int (nI o)] f g (some (.int (nI (pc_place (g 1) N o)))) f g := by
  refine pm_enter (cc := cX4_placeOf) (maxL := 4) (ret := (some .int)) (by decide) (Nat.le_of_ble_eq_true rfl) ?_
  intro p e s m below meth c A Qc ls hx hb hml hown hts hlk hA hK hP hD hS hr hq hl
  have hl : lv_has ls 4 [(0, .ref (h 0)), (1, .int (nI o))] := hl
  refine lv_iconst (v := nI 0) hx hb dX4_placeOf_0 (by decide) ?_
  refine lv_istore_n (lv' := [(2, .int (nI 0)), (0, .ref (h 0)), (1, .int (nI o))]) hx hb dX4_placeOf_1 rfl hl (by decide) rfl (fun ls hl => ?_)
  refine lv_iconst (v := nI 0) hx hb dX4_placeOf_2 (by decide) ?_
  refine lv_istore_n (lv' := [(3, .int (nI 0)), (2, .int (nI 0)), (0, .ref (h 0)), (1, .int (nI o))]) hx hb dX4_placeOf_3 rfl hl (by decide) rfl (fun ls hl => ?_)
  have hloop4 : ∀ (n4 : Nat) (i1 : Nat), i1 ≤ N → N - i1 < n4 → ∀ (H : Heap) (locs : List Loc), va_P D pc_Cl (pm_W h cI f g) H → va_D A (pm_W h cI f g) → va_S A s.heap H locs → ∀ ls : Array Slot, lv_has ls 4 [(2, .int (nI (pc_cnt (pc_placep (g 1) o) i1))), (3, .int (nI i1)), (0, .ref (h 0)), (1, .int (nI o))] → W p l e ({ frames := 2, cells := 0, slots := 0, locals := 43 } : Room) s m ([.ref (h 0), .int (nI o)] : List Value).toArray below meth c H locs 0 0 (MQ below Qc ([.ref (h 0), .int (nI o)] : List Value).toArray s 0 0 A) (F0 m 4 ls []) := by
    intro n4
    induction n4 with
    | zero => intro i1 hi1 hm; exact absurd hm (by omega)
    | succ n4 ih4 =>
      intro i1 hi1 hm4 H locs hP hD hS ls hl
      refine lv_iload_n hx hb dX4_placeOf_4 rfl (lv_at hl 1 rfl) ?_
      refine lv_aload_n hx hb dX4_placeOf_5 rfl (lv_at hl 2 rfl) ?_
      refine va_get (D := D) (ci := 0) (v := .ref (h 1)) (C := RX4) (T := TX4) (N := 22) hx hb hts in_X4 hown hK hP 0 rfl rfl 1 (by decide) (hts _ q2483) (fun _ h9 => h9) rfl dX4_placeOf_6 ?_
      refine lv_iconst (v := nI 1) hx hb dX4_placeOf_9 (by decide) ?_
      refine pn_iald (e9 := 1) (f := g 1) hx hb hK hP 1 0 rfl rfl (by omega) (by decide) dX4_placeOf_10 ?_
      refine pn_top hN ?_
      refine pn_icmp_ge (tgt := 56) hx hb (by omega) (by omega) dX4_placeOf_11 (by decide) (fun c1 => ?_) (fun c1 => ?_)
      · refine lv_iload_n hx hb dX4_placeOf_56 rfl (lv_at hl 0 rfl) ?_
        exact pm_retI hx hb hlk hr hq hP hD hS dX4_placeOf_57 (by rw [show i1 = N from by omega]; rfl) rfl
      · refine lv_iload_n hx hb dX4_placeOf_14 rfl (lv_at hl 0 rfl) ?_
        refine lv_aload_n hx hb dX4_placeOf_15 rfl (lv_at hl 2 rfl) ?_
        refine lv_iload_n hx hb dX4_placeOf_16 rfl (lv_at hl 1 rfl) ?_
        refine pm_callI (n := 1) [.int (nI (pc_cnt (pc_placep (g 1) o) i1))] hx hb hml hown hts hA hK (m_isWaiting l D h cI f g i1 (by first | assumption | omega | rfl)) (lw_V q2653 q2655 qs64 q122 q2656) ⟨rfl, rfl⟩ (by decide +kernel) ⟨Nat.le_of_ble_eq_true rfl, Nat.le_of_ble_eq_true rfl⟩ hP hD hS rfl hl.1 rfl (Nat.le_of_ble_eq_true rfl) ⟨Nat.zero_le _, Nat.zero_le _⟩ dX4_placeOf_17 (fun H locs hP hD hS => ?_)
        refine pb_if_eq (tgt := 44) hx hb dX4_placeOf_20 (by decide) (fun c2 => ?_) (fun c2 => ?_)
        · refine lv_iconst (v := nI 0) hx hb dX4_placeOf_44 (by decide) ?_
          refine pp_callS (n := 1) (rest := [.int (nI (pc_cnt (pc_placep (g 1) o) i1))]) hx hb hml hown hts (m_truth l false) (lw_S q2630 q2631 q122 q2632) ⟨rfl, rfl⟩ (by decide +kernel) ⟨Nat.le_of_ble_eq_true rfl, Nat.le_of_ble_eq_true rfl⟩ rfl hl.1 rfl (Nat.le_of_ble_eq_true rfl) dX4_placeOf_45 ⟨Nat.zero_le _, Nat.zero_le _⟩ ?_
          refine lv_iadd hx hb dX4_placeOf_48 ?_
          refine lv_istore_n (lv' := [(2, .int ((nI (pc_cnt (pc_placep (g 1) o) i1)) + (pc_b false))), (3, .int (nI i1)), (0, .ref (h 0)), (1, .int (nI o))]) hx hb dX4_placeOf_49 rfl hl (by decide) rfl (fun ls hl => ?_)
          refine lv_iinc (v := nI (i1 + 1)) (lv' := [(3, .int (nI (i1 + 1))), (2, .int ((nI (pc_cnt (pc_placep (g 1) o) i1)) + (pc_b false))), (0, .ref (h 0)), (1, .int (nI o))]) hx hb dX4_placeOf_50 hl (k := 1) rfl (nI_1 _) (by decide) rfl (fun ls hl => ?_)
          refine lv_goto (tgt := 4) hx hb dX4_placeOf_53 (by decide) ?_
          have eL : (nI (pc_cnt (pc_placep (g 1) o) i1)) + (pc_b false) = nI (pc_cnt (pc_placep (g 1) o) (i1 + 1)) := (by rw [← pc_cnt_step]; simp [pc_placep, pc_dlt, c1, c2])
          rw [eL] at hl
          exact ih4 (i1 + 1) (by first | assumption | omega) (by omega) _ _ hP hD hS _ (lv_sub hl [1, 0, 2, 3] rfl)
        · refine lv_aload_n hx hb dX4_placeOf_23 rfl (lv_at hl 2 rfl) ?_
          refine lv_iload_n hx hb dX4_placeOf_24 rfl (lv_at hl 1 rfl) ?_
          refine lv_bipush (v := nI 10) hx hb dX4_placeOf_25 (by decide) ?_
          refine pm_callI (n := 2) [.int (nI (pc_cnt (pc_placep (g 1) o) i1))] hx hb hml hown hts hA hK (m_of l D h cI f g i1 10 (by first | assumption | omega | rfl) (by first | assumption | omega | rfl)) (lw_V q2443 q2445 qs48 q122 q2446) ⟨rfl, rfl⟩ (by decide +kernel) ⟨Nat.le_of_ble_eq_true rfl, Nat.le_of_ble_eq_true rfl⟩ hP hD hS rfl hl.1 rfl (Nat.le_of_ble_eq_true rfl) ⟨Nat.zero_le _, Nat.zero_le _⟩ dX4_placeOf_27 (fun H locs hP hD hS => ?_)
          refine lv_aload_n hx hb dX4_placeOf_30 rfl (lv_at hl 2 rfl) ?_
          refine lv_iload_n hx hb dX4_placeOf_31 rfl (lv_at hl 3 rfl) ?_
          refine lv_bipush (v := nI 10) hx hb dX4_placeOf_32 (by decide) ?_
          refine pm_callI (n := 2) [.int (pc_of (g 1) i1 10), .int (nI (pc_cnt (pc_placep (g 1) o) i1))] hx hb hml hown hts hA hK (m_of l D h cI f g o 10 (by first | assumption | omega | rfl) (by first | assumption | omega | rfl)) (lw_V q2443 q2445 qs48 q122 q2446) ⟨rfl, rfl⟩ (by decide +kernel) ⟨Nat.le_of_ble_eq_true rfl, Nat.le_of_ble_eq_true rfl⟩ hP hD hS rfl hl.1 rfl (Nat.le_of_ble_eq_true rfl) ⟨Nat.zero_le _, Nat.zero_le _⟩ dX4_placeOf_34 (fun H locs hP hD hS => ?_)
          refine lv_icmp_ge (tgt := 44) hx hb dX4_placeOf_37 (by decide) (fun c3 => ?_) (fun c3 => ?_)
          · refine lv_iconst (v := nI 0) hx hb dX4_placeOf_44 (by decide) ?_
            refine pp_callS (n := 1) (rest := [.int (nI (pc_cnt (pc_placep (g 1) o) i1))]) hx hb hml hown hts (m_truth l false) (lw_S q2630 q2631 q122 q2632) ⟨rfl, rfl⟩ (by decide +kernel) ⟨Nat.le_of_ble_eq_true rfl, Nat.le_of_ble_eq_true rfl⟩ rfl hl.1 rfl (Nat.le_of_ble_eq_true rfl) dX4_placeOf_45 ⟨Nat.zero_le _, Nat.zero_le _⟩ ?_
            refine lv_iadd hx hb dX4_placeOf_48 ?_
            refine lv_istore_n (lv' := [(2, .int ((nI (pc_cnt (pc_placep (g 1) o) i1)) + (pc_b false))), (3, .int (nI i1)), (0, .ref (h 0)), (1, .int (nI o))]) hx hb dX4_placeOf_49 rfl hl (by decide) rfl (fun ls hl => ?_)
            refine lv_iinc (v := nI (i1 + 1)) (lv' := [(3, .int (nI (i1 + 1))), (2, .int ((nI (pc_cnt (pc_placep (g 1) o) i1)) + (pc_b false))), (0, .ref (h 0)), (1, .int (nI o))]) hx hb dX4_placeOf_50 hl (k := 1) rfl (nI_1 _) (by decide) rfl (fun ls hl => ?_)
            refine lv_goto (tgt := 4) hx hb dX4_placeOf_53 (by decide) ?_
            have eL : (nI (pc_cnt (pc_placep (g 1) o) i1)) + (pc_b false) = nI (pc_cnt (pc_placep (g 1) o) (i1 + 1)) := (by rw [← pc_cnt_step]; simp [pc_placep, pc_dlt, c1, c2, c3])
            rw [eL] at hl
            exact ih4 (i1 + 1) (by first | assumption | omega) (by omega) _ _ hP hD hS _ (lv_sub hl [1, 0, 2, 3] rfl)
          · refine lv_iconst (v := nI 1) hx hb dX4_placeOf_40 (by decide) ?_
            refine lv_goto (tgt := 45) hx hb dX4_placeOf_41 (by decide) ?_
            refine pp_callS (n := 1) (rest := [.int (nI (pc_cnt (pc_placep (g 1) o) i1))]) hx hb hml hown hts (m_truth l true) (lw_S q2630 q2631 q122 q2632) ⟨rfl, rfl⟩ (by decide +kernel) ⟨Nat.le_of_ble_eq_true rfl, Nat.le_of_ble_eq_true rfl⟩ rfl hl.1 rfl (Nat.le_of_ble_eq_true rfl) dX4_placeOf_45 ⟨Nat.zero_le _, Nat.zero_le _⟩ ?_
            refine lv_iadd hx hb dX4_placeOf_48 ?_
            refine lv_istore_n (lv' := [(2, .int ((nI (pc_cnt (pc_placep (g 1) o) i1)) + (pc_b true))), (3, .int (nI i1)), (0, .ref (h 0)), (1, .int (nI o))]) hx hb dX4_placeOf_49 rfl hl (by decide) rfl (fun ls hl => ?_)
            refine lv_iinc (v := nI (i1 + 1)) (lv' := [(3, .int (nI (i1 + 1))), (2, .int ((nI (pc_cnt (pc_placep (g 1) o) i1)) + (pc_b true))), (0, .ref (h 0)), (1, .int (nI o))]) hx hb dX4_placeOf_50 hl (k := 1) rfl (nI_1 _) (by decide) rfl (fun ls hl => ?_)
            refine lv_goto (tgt := 4) hx hb dX4_placeOf_53 (by decide) ?_
            have eL : (nI (pc_cnt (pc_placep (g 1) o) i1)) + (pc_b true) = nI (pc_cnt (pc_placep (g 1) o) (i1 + 1)) := (by rw [← pc_cnt_step]; simp [pc_placep, pc_dlt, c1, c2, c3])
            rw [eL] at hl
            exact ih4 (i1 + 1) (by first | assumption | omega) (by omega) _ _ hP hD hS _ (lv_sub hl [1, 0, 2, 3] rfl)
  exact hloop4 (N - 0 + 1) 0 (by first | assumption | omega) (by omega) _ _ hP hD hS _ (lv_sub hl [1, 0, 2, 3] rfl)

set_option maxHeartbeats 4000000 in
theorem m_waitingAt (l : Launch) (D : va_G) (h : Nat → Nat) (cI : ClassId) (f : Nat → Int32) (g : Nat → Nat → Int32) (N : Nat) (x : Int32) (hN : g 1 1 = nI N) (hN8 : N ≤ 8) : pm_C l yX4_waitingAt (ws_ yX4_waitingAt cX4_waitingAt 3 (some .int)) ({ frames := 3, cells := 0, slots := 0, locals := 66 } : Room) D h cI [.ref (h 0), .int (x)] f g (some (.int (pc_nx (pc_wat (g 1) N x) N))) f g := by
  refine pm_enter (cc := cX4_waitingAt) (maxL := 3) (ret := (some .int)) (by decide) (Nat.le_of_ble_eq_true rfl) ?_
  intro p e s m below meth c A Qc ls hx hb hml hown hts hlk hA hK hP hD hS hr hq hl
  have hl : lv_has ls 3 [(0, .ref (h 0)), (1, .int (x))] := hl
  refine lv_iconst (v := nI 0) hx hb dX4_waitingAt_0 (by decide) ?_
  refine lv_istore_n (lv' := [(2, .int (nI 0)), (0, .ref (h 0)), (1, .int (x))]) hx hb dX4_waitingAt_1 rfl hl (by decide) rfl (fun ls hl => ?_)
  have hloop2 : ∀ (n2 : Nat) (i1 : Nat), i1 ≤ N → (∀ z, z < i1 → pc_watp (g 1) N x z = false) → N - i1 < n2 → ∀ (H : Heap) (locs : List Loc), va_P D pc_Cl (pm_W h cI f g) H → va_D A (pm_W h cI f g) → va_S A s.heap H locs → ∀ ls : Array Slot, lv_has ls 3 [(2, .int (nI i1)), (0, .ref (h 0)), (1, .int (x))] → W p l e ({ frames := 3, cells := 0, slots := 0, locals := 66 } : Room) s m ([.ref (h 0), .int (x)] : List Value).toArray below meth c H locs 0 0 (MQ below Qc ([.ref (h 0), .int (x)] : List Value).toArray s 0 0 A) (F0 m 2 ls []) := by
    intro n2
    induction n2 with
    | zero => intro i1 hi1 hp1 hm; exact absurd hm (by omega)
    | succ n2 ih2 =>
      intro i1 hi1 hp1 hm2 H locs hP hD hS ls hl
      refine lv_iload_n hx hb dX4_waitingAt_2 rfl (lv_at hl 0 rfl) ?_
      refine lv_aload_n hx hb dX4_waitingAt_3 rfl (lv_at hl 1 rfl) ?_
      refine va_get (D := D) (ci := 0) (v := .ref (h 1)) (C := RX4) (T := TX4) (N := 22) hx hb hts in_X4 hown hK hP 0 rfl rfl 1 (by decide) (hts _ q2483) (fun _ h9 => h9) rfl dX4_waitingAt_4 ?_
      refine lv_iconst (v := nI 1) hx hb dX4_waitingAt_7 (by decide) ?_
      refine pn_iald (e9 := 1) (f := g 1) hx hb hK hP 1 0 rfl rfl (by omega) (by decide) dX4_waitingAt_8 ?_
      refine pn_top hN ?_
      refine pn_icmp_ge (tgt := 37) hx hb (by omega) (by omega) dX4_waitingAt_9 (by decide) (fun c1 => ?_) (fun c1 => ?_)
      · refine lv_iconst (v := -1) hx hb dX4_waitingAt_37 (by decide) ?_
        exact pm_retI hx hb hlk hr hq hP hD hS dX4_waitingAt_38 (by rw [pc_wat, pc_fst_no (fun z hz => hp1 z (by omega)), pc_nx_no (by omega)]) rfl
      · refine lv_aload_n hx hb dX4_waitingAt_12 rfl (lv_at hl 1 rfl) ?_
        refine lv_iload_n hx hb dX4_waitingAt_13 rfl (lv_at hl 0 rfl) ?_
        refine pm_callI (n := 1) [] hx hb hml hown hts hA hK (m_isWaiting l D h cI f g i1 (by first | assumption | omega | rfl)) (lw_V q2653 q2655 qs64 q122 q2656) ⟨rfl, rfl⟩ (by decide +kernel) ⟨Nat.le_of_ble_eq_true rfl, Nat.le_of_ble_eq_true rfl⟩ hP hD hS rfl hl.1 rfl (Nat.le_of_ble_eq_true rfl) ⟨Nat.zero_le _, Nat.zero_le _⟩ dX4_waitingAt_14 (fun H locs hP hD hS => ?_)
        refine pb_if_eq (tgt := 31) hx hb dX4_waitingAt_17 (by decide) (fun c2 => ?_) (fun c2 => ?_)
        · refine lv_iinc (v := nI (i1 + 1)) (lv' := [(2, .int (nI (i1 + 1))), (0, .ref (h 0)), (1, .int (x))]) hx hb dX4_waitingAt_31 hl (k := 0) rfl (nI_1 _) (by decide) rfl (fun ls hl => ?_)
          refine lv_goto (tgt := 2) hx hb dX4_waitingAt_34 (by decide) ?_
          exact ih2 (i1 + 1) (by first | assumption | omega) (lt_s hp1 (by simp [pc_watp, c1, c2])) (by omega) _ _ hP hD hS _ (lv_sub hl [0, 1, 2] rfl)
        · refine lv_aload_n hx hb dX4_waitingAt_20 rfl (lv_at hl 1 rfl) ?_
          refine lv_iload_n hx hb dX4_waitingAt_21 rfl (lv_at hl 0 rfl) ?_
          refine pm_callI (n := 1) [] hx hb hml hown hts hA hK (m_placeOf l D h cI f g N i1 (by first | assumption | omega | rfl) (by first | assumption | omega | rfl) (by first | assumption | omega | rfl)) (lw_V q2665 q2667 qs66 q122 q2668) ⟨rfl, rfl⟩ (by decide +kernel) ⟨Nat.le_of_ble_eq_true rfl, Nat.le_of_ble_eq_true rfl⟩ hP hD hS rfl hl.1 rfl (Nat.le_of_ble_eq_true rfl) ⟨Nat.zero_le _, Nat.zero_le _⟩ dX4_waitingAt_22 (fun H locs hP hD hS => ?_)
          refine lv_iload_n hx hb dX4_waitingAt_25 rfl (lv_at hl 2 rfl) ?_
          refine lv_icmp_ne (tgt := 31) hx hb dX4_waitingAt_26 (by decide) (fun c3 => ?_) (fun c3 => ?_)
          · refine lv_iinc (v := nI (i1 + 1)) (lv' := [(2, .int (nI (i1 + 1))), (0, .ref (h 0)), (1, .int (x))]) hx hb dX4_waitingAt_31 hl (k := 0) rfl (nI_1 _) (by decide) rfl (fun ls hl => ?_)
            refine lv_goto (tgt := 2) hx hb dX4_waitingAt_34 (by decide) ?_
            exact ih2 (i1 + 1) (by first | assumption | omega) (lt_s hp1 (by simp [pc_watp, c1, c2, c3])) (by omega) _ _ hP hD hS _ (lv_sub hl [0, 1, 2] rfl)
          · refine lv_iload_n hx hb dX4_waitingAt_29 rfl (lv_at hl 0 rfl) ?_
            exact pm_retI hx hb hlk hr hq hP hD hS dX4_waitingAt_30 (by rw [pc_wat, pc_fst_at (i := i1) (by omega) hp1 (by simp [pc_watp, c1, c2, c3]), pc_nx_lt (by omega)]) rfl
  exact hloop2 (N - 0 + 1) 0 (by first | assumption | omega) lt_0 (by omega) _ _ hP hD hS _ (lv_sub hl [0, 1, 2] rfl)

set_option maxHeartbeats 4000000 in
theorem m_gives (l : Launch) (D : va_G) (h : Nat → Nat) (cI : ClassId) (f : Nat → Int32) (g : Nat → Nat → Int32) (o : Nat) (k : Nat) (x : Int32) (ho : o < 8) (hk : k < 4) : pm_C l yX4_gives (ws_ yX4_gives cX4_gives 4 none) ({ frames := 1, cells := 0, slots := 0, locals := 23 } : Room) D h cI [.ref (h 0), .int (nI o), .int (nI k), .int (x)] f g none f (va_up g 1 (pc_gives (g 1) o k x)) := by
  refine pm_enter (cc := cX4_gives) (maxL := 4) (ret := none) (by decide) (Nat.le_of_ble_eq_true rfl) ?_
  intro p e s m below meth c A Qc ls hx hb hml hown hts hlk hA hK hP hD hS hr hq hl
  have hl : lv_has ls 4 [(0, .ref (h 0)), (1, .int (nI o)), (2, .int (nI k)), (3, .int (x))] := hl
  refine lv_aload_n hx hb dX4_gives_0 rfl (lv_at hl 0 rfl) ?_
  refine lv_iload_n hx hb dX4_gives_1 rfl (lv_at hl 1 rfl) ?_
  refine lv_iconst (v := nI 4) hx hb dX4_gives_2 (by decide) ?_
  refine lv_iload_n hx hb dX4_gives_3 rfl (lv_at hl 2 rfl) ?_
  refine pn_iadd hx hb dX4_gives_4 ?_
  refine lv_aload_n hx hb dX4_gives_5 rfl (lv_at hl 0 rfl) ?_
  refine lv_iload_n hx hb dX4_gives_6 rfl (lv_at hl 1 rfl) ?_
  refine lv_iconst (v := nI 4) hx hb dX4_gives_7 (by decide) ?_
  refine lv_iload_n hx hb dX4_gives_8 rfl (lv_at hl 2 rfl) ?_
  refine pn_iadd hx hb dX4_gives_9 ?_
  refine pm_callI (n := 2) [.int (nI (4 + k)), .int (nI o), .ref (h 0)] hx hb hml hown hts hA hK (m_of l D h cI f g o (4 + k) (by first | assumption | omega | rfl) (by first | assumption | omega | rfl)) (lw_V q2443 q2445 qs48 q122 q2446) ⟨rfl, rfl⟩ (by decide +kernel) ⟨Nat.le_of_ble_eq_true rfl, Nat.le_of_ble_eq_true rfl⟩ hP hD hS rfl hl.1 rfl (Nat.le_of_ble_eq_true rfl) ⟨Nat.zero_le _, Nat.zero_le _⟩ dX4_gives_10 (fun H locs hP hD hS => ?_)
  refine lv_iload_n hx hb dX4_gives_13 rfl (lv_at hl 3 rfl) ?_
  refine lv_iadd hx hb dX4_gives_14 ?_
  refine pm_callV (n := 3) [] hx hb hml hown hts hA hK (m_lays l D h cI f g o (4 + k) ((pc_of (g 1) o (4 + k)) + x) (by first | assumption | omega | rfl) (by first | assumption | omega | rfl)) (lw_V q2430 q2432 qs45 q122 q2433) ⟨rfl, rfl⟩ (by decide +kernel) ⟨Nat.le_of_ble_eq_true rfl, Nat.le_of_ble_eq_true rfl⟩ hP hD hS rfl hl.1 rfl (Nat.le_of_ble_eq_true rfl) ⟨Nat.zero_le _, Nat.zero_le _⟩ dX4_gives_15 (fun H locs hP hD hS => ?_)
  have hP : va_P D pc_Cl (pm_W h cI f (va_up g 1 (pc_lays (g 1) o (4 + k) ((pc_of (g 1) o (4 + k)) + x)))) H := hP
  have hD : va_D A (pm_W h cI f (va_up g 1 (pc_lays (g 1) o (4 + k) ((pc_of (g 1) o (4 + k)) + x)))) := hD
  exact pm_retV hx hb hlk hr hq hP hD hS dX4_gives_18 (by rfl)

set_option maxHeartbeats 4000000 in
theorem m_isSafeWith (l : Launch) (D : va_G) (h : Nat → Nat) (cI : ClassId) (f : Nat → Int32) (g : Nat → Nat → Int32) (K : Nat) (N : Nat) (o : Nat) (k : Nat) (x : Int32) (hN : g 1 1 = nI N) (hN8 : N ≤ 8) (hK0 : g 1 0 = nI K) (hK4 : K ≤ 4) (ho : o < 8) (hk : k < 4) : pm_C l yX4_isSafeWith (ws_ yX4_isSafeWith cX4_isSafeWith 5 (some .boolean)) ({ frames := 8, cells := 0, slots := 0, locals := 179 } : Room) D h cI [.ref (h 0), .int (nI o), .int (nI k), .int (x)] f g (some (.int (pc_b (pc_safeWith (g 1) K N o k x)))) f g := by
  refine pm_enter (cc := cX4_isSafeWith) (maxL := 5) (ret := (some .boolean)) (by decide) (Nat.le_of_ble_eq_true rfl) ?_
  intro p e s m below meth c A Qc ls hx hb hml hown hts hlk hA hK hP hD hS hr hq hl
  have hl : lv_has ls 5 [(0, .ref (h 0)), (1, .int (nI o)), (2, .int (nI k)), (3, .int (x))] := hl
  refine lv_aload_n hx hb dX4_isSafeWith_0 rfl (lv_at hl 0 rfl) ?_
  refine lv_iload_n hx hb dX4_isSafeWith_1 rfl (lv_at hl 1 rfl) ?_
  refine lv_iload_n hx hb dX4_isSafeWith_2 rfl (lv_at hl 2 rfl) ?_
  refine lv_iload_n hx hb dX4_isSafeWith_3 rfl (lv_at hl 3 rfl) ?_
  refine pm_callV (n := 3) [] hx hb hml hown hts hA hK (m_gives l D h cI f g o k x (by first | assumption | omega | rfl) (by first | assumption | omega | rfl)) (lw_V q2720 q2722 qs70 q122 q2723) ⟨rfl, rfl⟩ (by decide +kernel) ⟨Nat.le_of_ble_eq_true rfl, Nat.le_of_ble_eq_true rfl⟩ hP hD hS rfl hl.1 rfl (Nat.le_of_ble_eq_true rfl) ⟨Nat.zero_le _, Nat.zero_le _⟩ dX4_isSafeWith_4 (fun H locs hP hD hS => ?_)
  have hP : va_P D pc_Cl (pm_W h cI f (va_up g 1 (pc_gives (g 1) o k x))) H := hP
  have hD : va_D A (pm_W h cI f (va_up g 1 (pc_gives (g 1) o k x))) := hD
  refine lv_aload_n hx hb dX4_isSafeWith_7 rfl (lv_at hl 0 rfl) ?_
  refine pm_callI (n := 0) [] hx hb hml hown hts hA hK (m_isSafe l D h cI f (va_up g 1 (pc_gives (g 1) o k x)) K N ((pc_gives_lo (r := g 1) (j := 1) (by decide)).trans hN) (by first | assumption | omega | rfl) ((pc_gives_lo (r := g 1) (j := 0) (by decide)).trans hK0) (by first | assumption | omega | rfl)) (lw_V q2455 q2457 qs51 q122 q2458) ⟨rfl, rfl⟩ (by decide +kernel) ⟨Nat.le_of_ble_eq_true rfl, Nat.le_of_ble_eq_true rfl⟩ hP hD hS rfl hl.1 rfl (Nat.le_of_ble_eq_true rfl) ⟨Nat.zero_le _, Nat.zero_le _⟩ dX4_isSafeWith_8 (fun H locs hP hD hS => ?_)
  refine pn_top (y := pc_b (pc_safe (pc_gives (g 1) o k x) K N)) rfl ?_
  refine lv_istore (lv' := [(4, .int (pc_b (pc_safe (pc_gives (g 1) o k x) K N))), (0, .ref (h 0)), (1, .int (nI o)), (2, .int (nI k)), (3, .int (x))]) hx hb dX4_isSafeWith_11 hl (by decide) rfl (fun ls hl => ?_)
  refine lv_aload_n hx hb dX4_isSafeWith_13 rfl (lv_at hl 1 rfl) ?_
  refine lv_iload_n hx hb dX4_isSafeWith_14 rfl (lv_at hl 2 rfl) ?_
  refine lv_iload_n hx hb dX4_isSafeWith_15 rfl (lv_at hl 3 rfl) ?_
  refine lv_iload_n hx hb dX4_isSafeWith_16 rfl (lv_at hl 4 rfl) ?_
  refine lv_ineg hx hb dX4_isSafeWith_17 ?_
  refine pm_callV (n := 3) [] hx hb hml hown hts hA hK (m_gives l D h cI f (va_up g 1 (pc_gives (g 1) o k x)) o k (-x) (by first | assumption | omega | rfl) (by first | assumption | omega | rfl)) (lw_V q2720 q2722 qs70 q122 q2723) ⟨rfl, rfl⟩ (by decide +kernel) ⟨Nat.le_of_ble_eq_true rfl, Nat.le_of_ble_eq_true rfl⟩ hP hD hS rfl hl.1 rfl (Nat.le_of_ble_eq_true rfl) ⟨Nat.zero_le _, Nat.zero_le _⟩ dX4_isSafeWith_18 (fun H locs hP hD hS => ?_)
  have hP : va_P D pc_Cl (pm_W h cI f (va_up g 1 (pc_gives (pc_gives (g 1) o k x) o k (-x)))) H := hP
  have hD : va_D A (pm_W h cI f (va_up g 1 (pc_gives (pc_gives (g 1) o k x) o k (-x)))) := hD
  refine lv_iload hx hb dX4_isSafeWith_21 (lv_at hl 0 rfl) ?_
  exact pm_retZ hx hb hlk hr hq hP hD hS dX4_isSafeWith_23 (by rfl) (by exact congrArg (fun z => pm_W h cI f (va_up g 1 z)) (pc_giveback (g 1) o k x))

set_option maxHeartbeats 4000000 in
theorem m_canGrant (l : Launch) (D : va_G) (h : Nat → Nat) (cI : ClassId) (f : Nat → Int32) (g : Nat → Nat → Int32) (K : Nat) (N : Nat) (o : Nat) (k : Nat) (x : Int32) (hN : g 1 1 = nI N) (hN8 : N ≤ 8) (hK0 : g 1 0 = nI K) (hK4 : K ≤ 4) (ho : o < 8) (hk : k < 4) : pm_C l yX4_canGrant (ws_ yX4_canGrant cX4_canGrant 4 (some .boolean)) ({ frames := 9, cells := 0, slots := 0, locals := 203 } : Room) D h cI [.ref (h 0), .int (nI o), .int (nI k), .int (x)] f g (some (.int (pc_b (pc_can (g 1) K N o k x)))) f g := by
  refine pm_enter (cc := cX4_canGrant) (maxL := 4) (ret := (some .boolean)) (by decide) (Nat.le_of_ble_eq_true rfl) ?_
  intro p e s m below meth c A Qc ls hx hb hml hown hts hlk hA hK hP hD hS hr hq hl
  have hl : lv_has ls 4 [(0, .ref (h 0)), (1, .int (nI o)), (2, .int (nI k)), (3, .int (x))] := hl
  refine lv_aload_n hx hb dX4_canGrant_0 rfl (lv_at hl 0 rfl) ?_
  refine lv_iload_n hx hb dX4_canGrant_1 rfl (lv_at hl 2 rfl) ?_
  refine pm_callI (n := 1) [] hx hb hml hown hts hA hK (m_free l D h cI f g N k (by first | assumption | omega | rfl) (by first | assumption | omega | rfl) (by first | assumption | omega | rfl)) (lw_V q2447 q2449 qs49 q122 q2450) ⟨rfl, rfl⟩ (by decide +kernel) ⟨Nat.le_of_ble_eq_true rfl, Nat.le_of_ble_eq_true rfl⟩ hP hD hS rfl hl.1 rfl (Nat.le_of_ble_eq_true rfl) ⟨Nat.zero_le _, Nat.zero_le _⟩ dX4_canGrant_2 (fun H locs hP hD hS => ?_)
  refine lv_iload_n hx hb dX4_canGrant_5 rfl (lv_at hl 3 rfl) ?_
  refine lv_icmp_lt (tgt := 23) hx hb dX4_canGrant_6 (by decide) (fun c1 => ?_) (fun c1 => ?_)
  · refine lv_iconst (v := nI 0) hx hb dX4_canGrant_23 (by decide) ?_
    exact pm_retZ hx hb hlk hr hq hP hD hS dX4_canGrant_24 (by simp [pc_b, pc_can, c1]) rfl
  · refine lv_aload_n hx hb dX4_canGrant_9 rfl (lv_at hl 0 rfl) ?_
    refine lv_iload_n hx hb dX4_canGrant_10 rfl (lv_at hl 1 rfl) ?_
    refine lv_iload_n hx hb dX4_canGrant_11 rfl (lv_at hl 2 rfl) ?_
    refine lv_iload_n hx hb dX4_canGrant_12 rfl (lv_at hl 3 rfl) ?_
    refine pm_callI (n := 3) [] hx hb hml hown hts hA hK (m_isSafeWith l D h cI f g K N o k x (by first | assumption | omega | rfl) (by first | assumption | omega | rfl) (by first | assumption | omega | rfl) (by first | assumption | omega | rfl) (by first | assumption | omega | rfl) (by first | assumption | omega | rfl)) (lw_V q2716 q2718 qs69 q122 q2719) ⟨rfl, rfl⟩ (by decide +kernel) ⟨Nat.le_of_ble_eq_true rfl, Nat.le_of_ble_eq_true rfl⟩ hP hD hS rfl hl.1 rfl (Nat.le_of_ble_eq_true rfl) ⟨Nat.zero_le _, Nat.zero_le _⟩ dX4_canGrant_13 (fun H locs hP hD hS => ?_)
    refine pb_if_eq (tgt := 23) hx hb dX4_canGrant_16 (by decide) (fun c2 => ?_) (fun c2 => ?_)
    · refine lv_iconst (v := nI 0) hx hb dX4_canGrant_23 (by decide) ?_
      exact pm_retZ hx hb hlk hr hq hP hD hS dX4_canGrant_24 (by simp [pc_b, pc_can, c1, c2]) rfl
    · refine lv_iconst (v := nI 1) hx hb dX4_canGrant_19 (by decide) ?_
      refine lv_goto (tgt := 24) hx hb dX4_canGrant_20 (by decide) ?_
      exact pm_retZ hx hb hlk hr hq hP hD hS dX4_canGrant_24 (by simp [pc_b, pc_can, c1, c2]) rfl

set_option maxHeartbeats 4000000 in
theorem m_isSafeClaim (l : Launch) (D : va_G) (h : Nat → Nat) (cI : ClassId) (f : Nat → Int32) (g : Nat → Nat → Int32) (K : Nat) (N : Nat) (o : Nat) (k : Nat) (x : Int32) (hN : g 1 1 = nI N) (hN8 : N ≤ 8) (hK0 : g 1 0 = nI K) (hK4 : K ≤ 4) (ho : o < 8) (hk : k < 4) : pm_C l yX4_isSafeClaim (ws_ yX4_isSafeClaim cX4_isSafeClaim 6 (some .boolean)) ({ frames := 8, cells := 0, slots := 0, locals := 179 } : Room) D h cI [.ref (h 0), .int (nI o), .int (nI k), .int (x)] f g (some (.int (pc_b (pc_safe (pc_lays (g 1) o (0 + k) x) K N)))) f g := by
  refine pm_enter (cc := cX4_isSafeClaim) (maxL := 6) (ret := (some .boolean)) (by decide) (Nat.le_of_ble_eq_true rfl) ?_
  intro p e s m below meth c A Qc ls hx hb hml hown hts hlk hA hK hP hD hS hr hq hl
  have hl : lv_has ls 6 [(0, .ref (h 0)), (1, .int (nI o)), (2, .int (nI k)), (3, .int (x))] := hl
  refine lv_aload_n hx hb dX4_isSafeClaim_0 rfl (lv_at hl 0 rfl) ?_
  refine lv_iload_n hx hb dX4_isSafeClaim_1 rfl (lv_at hl 1 rfl) ?_
  refine lv_iconst (v := nI 0) hx hb dX4_isSafeClaim_2 (by decide) ?_
  refine lv_iload_n hx hb dX4_isSafeClaim_3 rfl (lv_at hl 2 rfl) ?_
  refine pn_iadd hx hb dX4_isSafeClaim_4 ?_
  refine pm_callI (n := 2) [] hx hb hml hown hts hA hK (m_of l D h cI f g o (0 + k) (by first | assumption | omega | rfl) (by first | assumption | omega | rfl)) (lw_V q2443 q2445 qs48 q122 q2446) ⟨rfl, rfl⟩ (by decide +kernel) ⟨Nat.le_of_ble_eq_true rfl, Nat.le_of_ble_eq_true rfl⟩ hP hD hS rfl hl.1 rfl (Nat.le_of_ble_eq_true rfl) ⟨Nat.zero_le _, Nat.zero_le _⟩ dX4_isSafeClaim_5 (fun H locs hP hD hS => ?_)
  refine lv_istore (lv' := [(4, .int (pc_of (g 1) o (0 + k))), (0, .ref (h 0)), (1, .int (nI o)), (2, .int (nI k)), (3, .int (x))]) hx hb dX4_isSafeClaim_8 hl (by decide) rfl (fun ls hl => ?_)
  refine lv_aload_n hx hb dX4_isSafeClaim_10 rfl (lv_at hl 1 rfl) ?_
  refine lv_iload_n hx hb dX4_isSafeClaim_11 rfl (lv_at hl 2 rfl) ?_
  refine lv_iconst (v := nI 0) hx hb dX4_isSafeClaim_12 (by decide) ?_
  refine lv_iload_n hx hb dX4_isSafeClaim_13 rfl (lv_at hl 3 rfl) ?_
  refine pn_iadd hx hb dX4_isSafeClaim_14 ?_
  refine lv_iload_n hx hb dX4_isSafeClaim_15 rfl (lv_at hl 4 rfl) ?_
  refine pm_callV (n := 3) [] hx hb hml hown hts hA hK (m_lays l D h cI f g o (0 + k) x (by first | assumption | omega | rfl) (by first | assumption | omega | rfl)) (lw_V q2430 q2432 qs45 q122 q2433) ⟨rfl, rfl⟩ (by decide +kernel) ⟨Nat.le_of_ble_eq_true rfl, Nat.le_of_ble_eq_true rfl⟩ hP hD hS rfl hl.1 rfl (Nat.le_of_ble_eq_true rfl) ⟨Nat.zero_le _, Nat.zero_le _⟩ dX4_isSafeClaim_16 (fun H locs hP hD hS => ?_)
  have hP : va_P D pc_Cl (pm_W h cI f (va_up g 1 (pc_lays (g 1) o (0 + k) x))) H := hP
  have hD : va_D A (pm_W h cI f (va_up g 1 (pc_lays (g 1) o (0 + k) x))) := hD
  refine lv_aload_n hx hb dX4_isSafeClaim_19 rfl (lv_at hl 1 rfl) ?_
  refine pm_callI (n := 0) [] hx hb hml hown hts hA hK (m_isSafe l D h cI f (va_up g 1 (pc_lays (g 1) o (0 + k) x)) K N ((pc_lays_lo (r := g 1) (j := 1) (by decide)).trans hN) (by first | assumption | omega | rfl) ((pc_lays_lo (r := g 1) (j := 0) (by decide)).trans hK0) (by first | assumption | omega | rfl)) (lw_V q2455 q2457 qs51 q122 q2458) ⟨rfl, rfl⟩ (by decide +kernel) ⟨Nat.le_of_ble_eq_true rfl, Nat.le_of_ble_eq_true rfl⟩ hP hD hS rfl hl.1 rfl (Nat.le_of_ble_eq_true rfl) ⟨Nat.zero_le _, Nat.zero_le _⟩ dX4_isSafeClaim_20 (fun H locs hP hD hS => ?_)
  refine pn_top (y := pc_b (pc_safe (pc_lays (g 1) o (0 + k) x) K N)) rfl ?_
  refine lv_istore (lv' := [(5, .int (pc_b (pc_safe (pc_lays (g 1) o (0 + k) x) K N))), (4, .int (pc_of (g 1) o (0 + k))), (0, .ref (h 0)), (1, .int (nI o)), (2, .int (nI k)), (3, .int (x))]) hx hb dX4_isSafeClaim_23 hl (by decide) rfl (fun ls hl => ?_)
  refine lv_aload_n hx hb dX4_isSafeClaim_25 rfl (lv_at hl 2 rfl) ?_
  refine lv_iload_n hx hb dX4_isSafeClaim_26 rfl (lv_at hl 3 rfl) ?_
  refine lv_iconst (v := nI 0) hx hb dX4_isSafeClaim_27 (by decide) ?_
  refine lv_iload_n hx hb dX4_isSafeClaim_28 rfl (lv_at hl 4 rfl) ?_
  refine pn_iadd hx hb dX4_isSafeClaim_29 ?_
  refine lv_iload hx hb dX4_isSafeClaim_30 (lv_at hl 1 rfl) ?_
  refine pm_callV (n := 3) [] hx hb hml hown hts hA hK (m_lays l D h cI f (va_up g 1 (pc_lays (g 1) o (0 + k) x)) o (0 + k) (pc_of (g 1) o (0 + k)) (by first | assumption | omega | rfl) (by first | assumption | omega | rfl)) (lw_V q2430 q2432 qs45 q122 q2433) ⟨rfl, rfl⟩ (by decide +kernel) ⟨Nat.le_of_ble_eq_true rfl, Nat.le_of_ble_eq_true rfl⟩ hP hD hS rfl hl.1 rfl (Nat.le_of_ble_eq_true rfl) ⟨Nat.zero_le _, Nat.zero_le _⟩ dX4_isSafeClaim_32 (fun H locs hP hD hS => ?_)
  have hP : va_P D pc_Cl (pm_W h cI f (va_up g 1 (pc_lays (pc_lays (g 1) o (0 + k) x) o (0 + k) (pc_of (g 1) o (0 + k))))) H := hP
  have hD : va_D A (pm_W h cI f (va_up g 1 (pc_lays (pc_lays (g 1) o (0 + k) x) o (0 + k) (pc_of (g 1) o (0 + k))))) := hD
  refine lv_iload hx hb dX4_isSafeClaim_35 (lv_at hl 0 rfl) ?_
  exact pm_retZ hx hb hlk hr hq hP hD hS dX4_isSafeClaim_37 rfl (by exact congrArg (fun z => pm_W h cI f (va_up g 1 z)) (pc_layback (g 1) o (0 + k) x))

set_option maxHeartbeats 4000000 in
theorem m_canClaim (l : Launch) (D : va_G) (h : Nat → Nat) (cI : ClassId) (f : Nat → Int32) (g : Nat → Nat → Int32) (K : Nat) (N : Nat) (o : Nat) (k : Nat) (x : Int32) (hN : g 1 1 = nI N) (hN8 : N ≤ 8) (hK0 : g 1 0 = nI K) (hK4 : K ≤ 4) (ho : o < 8) (hk : k < 4) : pm_C l yX4_canClaim (ws_ yX4_canClaim cX4_canClaim 5 (some .boolean)) ({ frames := 9, cells := 0, slots := 0, locals := 204 } : Room) D h cI [.ref (h 0), .int (nI o), .int (nI k), .int (x)] f g (some (.int (pc_b (pc_canClaim (g 1) K N o k x)))) f g := by
  refine pm_enter (cc := cX4_canClaim) (maxL := 5) (ret := (some .boolean)) (by decide) (Nat.le_of_ble_eq_true rfl) ?_
  intro p e s m below meth c A Qc ls hx hb hml hown hts hlk hA hK hP hD hS hr hq hl
  have hl : lv_has ls 5 [(0, .ref (h 0)), (1, .int (nI o)), (2, .int (nI k)), (3, .int (x))] := hl
  refine lv_aload_n hx hb dX4_canClaim_0 rfl (lv_at hl 0 rfl) ?_
  refine lv_iload_n hx hb dX4_canClaim_1 rfl (lv_at hl 1 rfl) ?_
  refine lv_bipush (v := nI 8) hx hb dX4_canClaim_2 (by decide) ?_
  refine pm_callI (n := 2) [] hx hb hml hown hts hA hK (m_of l D h cI f g o 8 (by first | assumption | omega | rfl) (by first | assumption | omega | rfl)) (lw_V q2443 q2445 qs48 q122 q2446) ⟨rfl, rfl⟩ (by decide +kernel) ⟨Nat.le_of_ble_eq_true rfl, Nat.le_of_ble_eq_true rfl⟩ hP hD hS rfl hl.1 rfl (Nat.le_of_ble_eq_true rfl) ⟨Nat.zero_le _, Nat.zero_le _⟩ dX4_canClaim_4 (fun H locs hP hD hS => ?_)
  refine lv_iload_n hx hb dX4_canClaim_7 rfl (lv_at hl 2 rfl) ?_
  refine lv_iconst (v := nI 1) hx hb dX4_canClaim_8 (by decide) ?_
  refine pn_iadd hx hb dX4_canClaim_9 ?_
  refine lv_icmp_ne (tgt := 23) hx hb dX4_canClaim_10 (by decide) (fun c1 => ?_) (fun c1 => ?_)
  · refine lv_iconst (v := nI 0) hx hb dX4_canClaim_23 (by decide) ?_
    refine lv_istore (lv' := [(4, .int (nI 0)), (0, .ref (h 0)), (1, .int (nI o)), (2, .int (nI k)), (3, .int (x))]) hx hb dX4_canClaim_24 hl (by decide) rfl (fun ls hl => ?_)
    refine lv_iload_n hx hb dX4_canClaim_26 rfl (lv_at hl 4 rfl) ?_
    refine lv_aload_n hx hb dX4_canClaim_27 rfl (lv_at hl 1 rfl) ?_
    refine lv_iload_n hx hb dX4_canClaim_28 rfl (lv_at hl 2 rfl) ?_
    refine lv_iconst (v := nI 4) hx hb dX4_canClaim_29 (by decide) ?_
    refine lv_iload_n hx hb dX4_canClaim_30 rfl (lv_at hl 3 rfl) ?_
    refine pn_iadd hx hb dX4_canClaim_31 ?_
    refine pm_callI (n := 2) [.int (x)] hx hb hml hown hts hA hK (m_of l D h cI f g o (4 + k) (by first | assumption | omega | rfl) (by first | assumption | omega | rfl)) (lw_V q2443 q2445 qs48 q122 q2446) ⟨rfl, rfl⟩ (by decide +kernel) ⟨Nat.le_of_ble_eq_true rfl, Nat.le_of_ble_eq_true rfl⟩ hP hD hS rfl hl.1 rfl (Nat.le_of_ble_eq_true rfl) ⟨Nat.zero_le _, Nat.zero_le _⟩ dX4_canClaim_32 (fun H locs hP hD hS => ?_)
    refine lv_iload hx hb dX4_canClaim_35 (lv_at hl 0 rfl) ?_
    refine lv_iadd hx hb dX4_canClaim_37 ?_
    refine lv_icmp_lt (tgt := 55) hx hb dX4_canClaim_38 (by decide) (fun c2 => ?_) (fun c2 => ?_)
    · refine lv_iconst (v := nI 0) hx hb dX4_canClaim_55 (by decide) ?_
      exact pm_retZ hx hb hlk hr hq hP hD hS dX4_canClaim_56 (by simp [pc_b, pc_canClaim, -Nat.zero_add, c1, c2]) rfl
    · refine lv_aload_n hx hb dX4_canClaim_41 rfl (lv_at hl 1 rfl) ?_
      refine lv_iload_n hx hb dX4_canClaim_42 rfl (lv_at hl 2 rfl) ?_
      refine lv_iload_n hx hb dX4_canClaim_43 rfl (lv_at hl 3 rfl) ?_
      refine lv_iload_n hx hb dX4_canClaim_44 rfl (lv_at hl 4 rfl) ?_
      refine pm_callI (n := 3) [] hx hb hml hown hts hA hK (m_isSafeClaim l D h cI f g K N o k x (by first | assumption | omega | rfl) (by first | assumption | omega | rfl) (by first | assumption | omega | rfl) (by first | assumption | omega | rfl) (by first | assumption | omega | rfl) (by first | assumption | omega | rfl)) (lw_V q2819 q2821 qs84 q122 q2822) ⟨rfl, rfl⟩ (by decide +kernel) ⟨Nat.le_of_ble_eq_true rfl, Nat.le_of_ble_eq_true rfl⟩ hP hD hS rfl hl.1 rfl (Nat.le_of_ble_eq_true rfl) ⟨Nat.zero_le _, Nat.zero_le _⟩ dX4_canClaim_45 (fun H locs hP hD hS => ?_)
      refine pb_if_eq (tgt := 55) hx hb dX4_canClaim_48 (by decide) (fun c3 => ?_) (fun c3 => ?_)
      · refine lv_iconst (v := nI 0) hx hb dX4_canClaim_55 (by decide) ?_
        exact pm_retZ hx hb hlk hr hq hP hD hS dX4_canClaim_56 (by simp [pc_b, pc_canClaim, -Nat.zero_add, c1, c2, c3]) rfl
      · refine lv_iconst (v := nI 1) hx hb dX4_canClaim_51 (by decide) ?_
        refine lv_goto (tgt := 56) hx hb dX4_canClaim_52 (by decide) ?_
        exact pm_retZ hx hb hlk hr hq hP hD hS dX4_canClaim_56 (by simp [pc_b, pc_canClaim, -Nat.zero_add, c1, c2, c3]) rfl
  · refine lv_aload_n hx hb dX4_canClaim_13 rfl (lv_at hl 0 rfl) ?_
    refine lv_iload_n hx hb dX4_canClaim_14 rfl (lv_at hl 1 rfl) ?_
    refine lv_bipush (v := nI 9) hx hb dX4_canClaim_15 (by decide) ?_
    refine pm_callI (n := 2) [] hx hb hml hown hts hA hK (m_of l D h cI f g o 9 (by first | assumption | omega | rfl) (by first | assumption | omega | rfl)) (lw_V q2443 q2445 qs48 q122 q2446) ⟨rfl, rfl⟩ (by decide +kernel) ⟨Nat.le_of_ble_eq_true rfl, Nat.le_of_ble_eq_true rfl⟩ hP hD hS rfl hl.1 rfl (Nat.le_of_ble_eq_true rfl) ⟨Nat.zero_le _, Nat.zero_le _⟩ dX4_canClaim_17 (fun H locs hP hD hS => ?_)
    refine lv_goto (tgt := 24) hx hb dX4_canClaim_20 (by decide) ?_
    refine lv_istore (lv' := [(4, .int (pc_of (g 1) o 9)), (0, .ref (h 0)), (1, .int (nI o)), (2, .int (nI k)), (3, .int (x))]) hx hb dX4_canClaim_24 hl (by decide) rfl (fun ls hl => ?_)
    refine lv_iload_n hx hb dX4_canClaim_26 rfl (lv_at hl 4 rfl) ?_
    refine lv_aload_n hx hb dX4_canClaim_27 rfl (lv_at hl 1 rfl) ?_
    refine lv_iload_n hx hb dX4_canClaim_28 rfl (lv_at hl 2 rfl) ?_
    refine lv_iconst (v := nI 4) hx hb dX4_canClaim_29 (by decide) ?_
    refine lv_iload_n hx hb dX4_canClaim_30 rfl (lv_at hl 3 rfl) ?_
    refine pn_iadd hx hb dX4_canClaim_31 ?_
    refine pm_callI (n := 2) [.int (x)] hx hb hml hown hts hA hK (m_of l D h cI f g o (4 + k) (by first | assumption | omega | rfl) (by first | assumption | omega | rfl)) (lw_V q2443 q2445 qs48 q122 q2446) ⟨rfl, rfl⟩ (by decide +kernel) ⟨Nat.le_of_ble_eq_true rfl, Nat.le_of_ble_eq_true rfl⟩ hP hD hS rfl hl.1 rfl (Nat.le_of_ble_eq_true rfl) ⟨Nat.zero_le _, Nat.zero_le _⟩ dX4_canClaim_32 (fun H locs hP hD hS => ?_)
    refine lv_iload hx hb dX4_canClaim_35 (lv_at hl 0 rfl) ?_
    refine lv_iadd hx hb dX4_canClaim_37 ?_
    refine lv_icmp_lt (tgt := 55) hx hb dX4_canClaim_38 (by decide) (fun c4 => ?_) (fun c4 => ?_)
    · refine lv_iconst (v := nI 0) hx hb dX4_canClaim_55 (by decide) ?_
      exact pm_retZ hx hb hlk hr hq hP hD hS dX4_canClaim_56 (by simp [pc_b, pc_canClaim, -Nat.zero_add, c1, c4]) rfl
    · refine lv_aload_n hx hb dX4_canClaim_41 rfl (lv_at hl 1 rfl) ?_
      refine lv_iload_n hx hb dX4_canClaim_42 rfl (lv_at hl 2 rfl) ?_
      refine lv_iload_n hx hb dX4_canClaim_43 rfl (lv_at hl 3 rfl) ?_
      refine lv_iload_n hx hb dX4_canClaim_44 rfl (lv_at hl 4 rfl) ?_
      refine pm_callI (n := 3) [] hx hb hml hown hts hA hK (m_isSafeClaim l D h cI f g K N o k x (by first | assumption | omega | rfl) (by first | assumption | omega | rfl) (by first | assumption | omega | rfl) (by first | assumption | omega | rfl) (by first | assumption | omega | rfl) (by first | assumption | omega | rfl)) (lw_V q2819 q2821 qs84 q122 q2822) ⟨rfl, rfl⟩ (by decide +kernel) ⟨Nat.le_of_ble_eq_true rfl, Nat.le_of_ble_eq_true rfl⟩ hP hD hS rfl hl.1 rfl (Nat.le_of_ble_eq_true rfl) ⟨Nat.zero_le _, Nat.zero_le _⟩ dX4_canClaim_45 (fun H locs hP hD hS => ?_)
      refine pb_if_eq (tgt := 55) hx hb dX4_canClaim_48 (by decide) (fun c5 => ?_) (fun c5 => ?_)
      · refine lv_iconst (v := nI 0) hx hb dX4_canClaim_55 (by decide) ?_
        exact pm_retZ hx hb hlk hr hq hP hD hS dX4_canClaim_56 (by simp [pc_b, pc_canClaim, -Nat.zero_add, c1, c4, c5]) rfl
      · refine lv_iconst (v := nI 1) hx hb dX4_canClaim_51 (by decide) ?_
        refine lv_goto (tgt := 56) hx hb dX4_canClaim_52 (by decide) ?_
        exact pm_retZ hx hb hlk hr hq hP hD hS dX4_canClaim_56 (by simp [pc_b, pc_canClaim, -Nat.zero_add, c1, c4, c5]) rfl

set_option maxHeartbeats 4000000 in
theorem m_canRetire (l : Launch) (D : va_G) (h : Nat → Nat) (cI : ClassId) (f : Nat → Int32) (g : Nat → Nat → Int32) (K : Nat) (N : Nat) (k : Nat) (x : Int32) (hN : g 1 1 = nI N) (hN8 : N ≤ 8) (hK0 : g 1 0 = nI K) (hK4 : K ≤ 4) (hk : k < 4) : pm_C l yX4_canRetire (ws_ yX4_canRetire cX4_canRetire 4 (some .boolean)) ({ frames := 8, cells := 0, slots := 0, locals := 179 } : Room) D h cI [.ref (h 0), .int (nI k), .int (x)] f g (some (.int (pc_b (pc_canRetire (g 1) K N k x)))) f g := by
  refine pm_enter (cc := cX4_canRetire) (maxL := 4) (ret := (some .boolean)) (by decide) (Nat.le_of_ble_eq_true rfl) ?_
  intro p e s m below meth c A Qc ls hx hb hml hown hts hlk hA hK hP hD hS hr hq hl
  have hl : lv_has ls 4 [(0, .ref (h 0)), (1, .int (nI k)), (2, .int (x))] := hl
  refine lv_aload_n hx hb dX4_canRetire_0 rfl (lv_at hl 0 rfl) ?_
  refine lv_iload_n hx hb dX4_canRetire_1 rfl (lv_at hl 1 rfl) ?_
  refine pm_callI (n := 1) [] hx hb hml hown hts hA hK (m_free l D h cI f g N k (by first | assumption | omega | rfl) (by first | assumption | omega | rfl) (by first | assumption | omega | rfl)) (lw_V q2447 q2449 qs49 q122 q2450) ⟨rfl, rfl⟩ (by decide +kernel) ⟨Nat.le_of_ble_eq_true rfl, Nat.le_of_ble_eq_true rfl⟩ hP hD hS rfl hl.1 rfl (Nat.le_of_ble_eq_true rfl) ⟨Nat.zero_le _, Nat.zero_le _⟩ dX4_canRetire_2 (fun H locs hP hD hS => ?_)
  refine lv_iload_n hx hb dX4_canRetire_5 rfl (lv_at hl 2 rfl) ?_
  refine lv_icmp_ge (tgt := 11) hx hb dX4_canRetire_6 (by decide) (fun c1 => ?_) (fun c1 => ?_)
  · refine lv_iconst (v := nI 0) hx hb dX4_canRetire_11 (by decide) ?_
    refine lv_istore_n (lv' := [(3, .int (nI 0)), (0, .ref (h 0)), (1, .int (nI k)), (2, .int (x))]) hx hb dX4_canRetire_12 rfl hl (by decide) rfl (fun ls hl => ?_)
    have hloop13 : ∀ (n13 : Nat) (i1 : Nat), i1 ≤ N → (∀ z, z < i1 → pc_claimp (g 1) k x z = true) → N - i1 < n13 → ∀ (H : Heap) (locs : List Loc), va_P D pc_Cl (pm_W h cI f g) H → va_D A (pm_W h cI f g) → va_S A s.heap H locs → ∀ ls : Array Slot, lv_has ls 4 [(3, .int (nI i1)), (0, .ref (h 0)), (1, .int (nI k)), (2, .int (x))] → W p l e ({ frames := 8, cells := 0, slots := 0, locals := 179 } : Room) s m ([.ref (h 0), .int (nI k), .int (x)] : List Value).toArray below meth c H locs 0 0 (MQ below Qc ([.ref (h 0), .int (nI k), .int (x)] : List Value).toArray s 0 0 A) (F0 m 13 ls []) := by
      intro n13
      induction n13 with
      | zero => intro i1 hi1 hp1 hm; exact absurd hm (by omega)
      | succ n13 ih13 =>
        intro i1 hi1 hp1 hm13 H locs hP hD hS ls hl
        refine lv_iload_n hx hb dX4_canRetire_13 rfl (lv_at hl 0 rfl) ?_
        refine lv_aload_n hx hb dX4_canRetire_14 rfl (lv_at hl 1 rfl) ?_
        refine va_get (D := D) (ci := 0) (v := .ref (h 1)) (C := RX4) (T := TX4) (N := 22) hx hb hts in_X4 hown hK hP 0 rfl rfl 1 (by decide) (hts _ q2483) (fun _ h9 => h9) rfl dX4_canRetire_15 ?_
        refine lv_iconst (v := nI 1) hx hb dX4_canRetire_18 (by decide) ?_
        refine pn_iald (e9 := 1) (f := g 1) hx hb hK hP 1 0 rfl rfl (by omega) (by decide) dX4_canRetire_19 ?_
        refine pn_top hN ?_
        refine pn_icmp_ge (tgt := 53) hx hb (by omega) (by omega) dX4_canRetire_20 (by decide) (fun c2 => ?_) (fun c2 => ?_)
        · refine lv_aload_n hx hb dX4_canRetire_53 rfl (lv_at hl 1 rfl) ?_
          refine va_get (D := D) (ci := 0) (v := .ref (h 1)) (C := RX4) (T := TX4) (N := 22) hx hb hts in_X4 hown hK hP 0 rfl rfl 1 (by decide) (hts _ q2483) (fun _ h9 => h9) rfl dX4_canRetire_54 ?_
          refine lv_bipush (v := nI 9) hx hb dX4_canRetire_57 (by decide) ?_
          refine lv_iload_n hx hb dX4_canRetire_59 rfl (lv_at hl 2 rfl) ?_
          refine pn_iadd hx hb dX4_canRetire_60 ?_
          refine lv_dup2_11 hx hb dX4_canRetire_61 rfl rfl ?_
          refine pn_iald (e9 := 9 + k) (f := g 1) hx hb hK hP 1 0 rfl rfl (by omega) (by decide) dX4_canRetire_62 ?_
          refine lv_iload_n hx hb dX4_canRetire_63 rfl (lv_at hl 3 rfl) ?_
          refine lv_isub hx hb dX4_canRetire_64 ?_
          refine pm_ast1 (g := g) (g2 := (va_up g 1 (upd (g 1) (9 + k) (((g 1) (9 + k)) - x)))) (X := g 1) (e9 := 9 + k) hx hb hK hP hD hS rfl (by omega) rfl dX4_canRetire_65 (fun H locs hP hD hS => ?_)
          refine lv_aload_n hx hb dX4_canRetire_66 rfl (lv_at hl 1 rfl) ?_
          refine pm_callI (n := 0) [] hx hb hml hown hts hA hK (m_isSafe l D h cI f (va_up g 1 (upd (g 1) (9 + k) (((g 1) (9 + k)) - x))) K N ((pc_upd_ne (r := g 1) (by omega)).trans hN) (by first | assumption | omega | rfl) ((pc_upd_ne (r := g 1) (by omega)).trans hK0) (by first | assumption | omega | rfl)) (lw_V q2455 q2457 qs51 q122 q2458) ⟨rfl, rfl⟩ (by decide +kernel) ⟨Nat.le_of_ble_eq_true rfl, Nat.le_of_ble_eq_true rfl⟩ hP hD hS rfl hl.1 rfl (Nat.le_of_ble_eq_true rfl) ⟨Nat.zero_le _, Nat.zero_le _⟩ dX4_canRetire_67 (fun H locs hP hD hS => ?_)
          refine pn_top (y := pc_b (pc_safe (upd (g 1) (9 + k) (((g 1) (9 + k)) - x)) K N)) rfl ?_
          refine lv_istore_n (lv' := [(3, .int (pc_b (pc_safe (upd (g 1) (9 + k) (((g 1) (9 + k)) - x)) K N))), (0, .ref (h 0)), (1, .int (nI k)), (2, .int (x))]) hx hb dX4_canRetire_70 rfl hl (by decide) rfl (fun ls hl => ?_)
          refine lv_aload_n hx hb dX4_canRetire_71 rfl (lv_at hl 1 rfl) ?_
          refine va_get (D := D) (ci := 0) (v := .ref (h 1)) (C := RX4) (T := TX4) (N := 22) hx hb hts in_X4 hown hK hP 0 rfl rfl 1 (by decide) (hts _ q2483) (fun _ h9 => h9) rfl dX4_canRetire_72 ?_
          refine lv_bipush (v := nI 9) hx hb dX4_canRetire_75 (by decide) ?_
          refine lv_iload_n hx hb dX4_canRetire_77 rfl (lv_at hl 2 rfl) ?_
          refine pn_iadd hx hb dX4_canRetire_78 ?_
          refine lv_dup2_11 hx hb dX4_canRetire_79 rfl rfl ?_
          refine pn_iald (e9 := 9 + k) (f := (upd (g 1) (9 + k) (((g 1) (9 + k)) - x))) hx hb hK hP 1 0 rfl rfl (by omega) (by decide) dX4_canRetire_80 ?_
          refine lv_iload_n hx hb dX4_canRetire_81 rfl (lv_at hl 3 rfl) ?_
          refine lv_iadd hx hb dX4_canRetire_82 ?_
          refine pm_ast1 (g := (va_up g 1 (upd (g 1) (9 + k) (((g 1) (9 + k)) - x)))) (g2 := (va_up g 1 (upd (upd (g 1) (9 + k) (((g 1) (9 + k)) - x)) (9 + k) (((upd (g 1) (9 + k) (((g 1) (9 + k)) - x)) (9 + k)) + x)))) (X := (upd (g 1) (9 + k) (((g 1) (9 + k)) - x))) (e9 := 9 + k) hx hb hK hP hD hS (va_up_self _ _ _) (by omega) (bx_uu _ _ _ _) dX4_canRetire_83 (fun H locs hP hD hS => ?_)
          refine lv_iload_n hx hb dX4_canRetire_84 rfl (lv_at hl 0 rfl) ?_
          exact pm_retZ hx hb hlk hr hq hP hD hS dX4_canRetire_85 (by rw [pc_canRetire, pc_all_t (fun z hz => hp1 z (by omega))]; simp [pc_b, pc_retires, c1]) (by exact congrArg (fun z => pm_W h cI f (va_up g 1 z)) (pc_unretire (g 1) (9 + k) x))
        · refine lv_aload_n hx hb dX4_canRetire_23 rfl (lv_at hl 1 rfl) ?_
          refine lv_iload_n hx hb dX4_canRetire_24 rfl (lv_at hl 0 rfl) ?_
          refine lv_iconst (v := nI 0) hx hb dX4_canRetire_25 (by decide) ?_
          refine lv_iload_n hx hb dX4_canRetire_26 rfl (lv_at hl 2 rfl) ?_
          refine pn_iadd hx hb dX4_canRetire_27 ?_
          refine pm_callI (n := 2) [] hx hb hml hown hts hA hK (m_of l D h cI f g i1 (0 + k) (by first | assumption | omega | rfl) (by first | assumption | omega | rfl)) (lw_V q2443 q2445 qs48 q122 q2446) ⟨rfl, rfl⟩ (by decide +kernel) ⟨Nat.le_of_ble_eq_true rfl, Nat.le_of_ble_eq_true rfl⟩ hP hD hS rfl hl.1 rfl (Nat.le_of_ble_eq_true rfl) ⟨Nat.zero_le _, Nat.zero_le _⟩ dX4_canRetire_28 (fun H locs hP hD hS => ?_)
          refine lv_aload_n hx hb dX4_canRetire_31 rfl (lv_at hl 1 rfl) ?_
          refine va_get (D := D) (ci := 0) (v := .ref (h 1)) (C := RX4) (T := TX4) (N := 22) hx hb hts in_X4 hown hK hP 0 rfl rfl 1 (by decide) (hts _ q2483) (fun _ h9 => h9) rfl dX4_canRetire_32 ?_
          refine lv_bipush (v := nI 9) hx hb dX4_canRetire_35 (by decide) ?_
          refine lv_iload_n hx hb dX4_canRetire_37 rfl (lv_at hl 2 rfl) ?_
          refine pn_iadd hx hb dX4_canRetire_38 ?_
          refine pn_iald (e9 := 9 + k) (f := g 1) hx hb hK hP 1 0 rfl rfl (by omega) (by decide) dX4_canRetire_39 ?_
          refine lv_iload_n hx hb dX4_canRetire_40 rfl (lv_at hl 3 rfl) ?_
          refine lv_isub hx hb dX4_canRetire_41 ?_
          refine lv_icmp_le (tgt := 47) hx hb dX4_canRetire_42 (by decide) (fun c3 => ?_) (fun c3 => ?_)
          · refine lv_iinc (v := nI (i1 + 1)) (lv' := [(3, .int (nI (i1 + 1))), (0, .ref (h 0)), (1, .int (nI k)), (2, .int (x))]) hx hb dX4_canRetire_47 hl (k := 0) rfl (nI_1 _) (by decide) rfl (fun ls hl => ?_)
            refine lv_goto (tgt := 13) hx hb dX4_canRetire_50 (by decide) ?_
            exact ih13 (i1 + 1) (by first | assumption | omega) (lt_s hp1 (by simp [pc_claimp, -Nat.zero_add, c3])) (by omega) _ _ hP hD hS _ (lv_sub hl [0, 1, 2, 3] rfl)
          · refine lv_iconst (v := nI 0) hx hb dX4_canRetire_45 (by decide) ?_
            exact pm_retZ hx hb hlk hr hq hP hD hS dX4_canRetire_46 (by rw [pc_canRetire, pc_all_f (i := i1) (by omega) (by simp [pc_claimp, -Nat.zero_add, c3])]; simp [pc_b]) rfl
    exact hloop13 (N - 0 + 1) 0 (by first | assumption | omega) lt_0 (by omega) _ _ hP hD hS _ (lv_sub hl [0, 1, 2, 3] rfl)
  · refine lv_iconst (v := nI 0) hx hb dX4_canRetire_9 (by decide) ?_
    exact pm_retZ hx hb hlk hr hq hP hD hS dX4_canRetire_10 (by simp [pc_b, pc_canRetire, c1]) rfl
