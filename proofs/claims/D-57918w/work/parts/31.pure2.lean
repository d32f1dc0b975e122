/-! PURE 2: those who wait, in their order -/
theorem pc_lt_irr (a : Int32) : ¬ a < a := by rw [Int32.lt_iff_toInt_lt]; omega
theorem pc_lt_asy {a b : Int32} (h : a < b) : ¬ b < a := by rw [Int32.lt_iff_toInt_lt] at h ⊢; omega
theorem pc_cntP (p : Nat → Bool) (n : Nat) : pc_cnt p n = (List.range n).countP p := by
  induction n with
  | zero => rfl
  | succ n ih =>
    rw [List.range_succ, List.countP_append, ← ih]
    simp [pc_cnt, List.countP_cons]
theorem pc_countP_pos (f : Nat → Int32) : ∀ (wl : List Nat), wl.Pairwise (fun a b => f a < f b) → ∀ (p : Nat) (h : p < wl.length), wl.countP (fun z => decide (f z < f wl[p])) = p
  | [], _, p, h => absurd h (Nat.not_lt_zero _)
  | a :: l, hp, 0, _ => by
    obtain ⟨h1, h2⟩ := List.pairwise_cons.mp hp
    show (a :: l).countP (fun z => decide (f z < f a)) = 0
    rw [List.countP_eq_zero]
    intro z hz
    rcases List.mem_cons.mp hz with rfl | q
    · simp [pc_lt_irr]
    · simp [pc_lt_asy (h1 z q)]
  | a :: l, hp, p + 1, h => by
    obtain ⟨h1, h2⟩ := List.pairwise_cons.mp hp
    have hl : p < l.length := Nat.lt_of_succ_lt_succ h
    show (a :: l).countP (fun z => decide (f z < f l[p])) = p + 1
    rw [List.countP_cons, pc_countP_pos f l h2 p hl, if_pos (by simpa using h1 _ (List.getElem_mem hl))]
def pc_inv (B : Nat) (r : Nat → Int32) (K N : Nat) (wl : List Nat) : Prop :=
  pc_wf r K N ∧ (∀ o, o ∈ wl → o < N ∧ ∃ k, k < K ∧ pc_of r o 8 = nI (k + 1)) ∧ (∀ o, o < N → o ∉ wl → pc_of r o 8 = nI 0 ∧ pc_of r o 9 = nI 0) ∧ wl.Pairwise (fun a b => pc_of r a 10 < pc_of r b 10) ∧ ∃ J, r 2 = nI J ∧ J ≤ B ∧ ∀ o, o ∈ wl → ∃ j, j < J ∧ pc_of r o 10 = nI j
section INV
variable {B K N : Nat} {r : Nat → Int32} {wl : List Nat}
theorem pc_inv.wf (h : pc_inv B r K N wl) : pc_wf r K N := h.1
theorem pc_inv.K0 (h : pc_inv B r K N wl) : r 0 = nI K := h.1.1
theorem pc_inv.N0 (h : pc_inv B r K N wl) : r 1 = nI N := h.1.2.1
theorem pc_inv.K1 (h : pc_inv B r K N wl) : 1 ≤ K := h.1.2.2.1
theorem pc_inv.K4 (h : pc_inv B r K N wl) : K ≤ 4 := h.1.2.2.2.1
theorem pc_inv.N1 (h : pc_inv B r K N wl) : 1 ≤ N := h.1.2.2.2.2.1
theorem pc_inv.N8 (h : pc_inv B r K N wl) : N ≤ 8 := h.1.2.2.2.2.2
theorem pc_inv.nodup (h : pc_inv B r K N wl) : wl.Nodup := h.2.2.2.1.imp (fun {a b} q e => by rw [e] at q; exact pc_lt_irr _ q)
theorem pc_inv.wait (h : pc_inv B r K N wl) {o : Nat} (ho : o < N) : pc_wait r o = true ↔ o ∈ wl := by
  obtain ⟨⟨-, -, -, hK4, -, -⟩, h1, h2, -⟩ := h
  constructor
  · intro hw
    refine Decidable.byContradiction fun q => ?_
    have h3 := (h2 o ho q).1
    unfold pc_wait at hw
    rw [h3] at hw
    exact absurd hw (by decide)
  · intro q
    obtain ⟨-, k, hk, e⟩ := h1 o q
    unfold pc_wait
    rw [e]
    simp only [Bool.not_eq_true', decide_eq_false_iff_not]
    exact nI_nle (by omega) (by omega)
theorem pc_inv.perm (h : pc_inv B r K N wl) : ((List.range N).filter (pc_wait r)).Perm wl := by
  refine (List.perm_ext_iff_of_nodup (List.nodup_range.sublist (List.filter_sublist)) h.nodup).mpr fun o => ?_
  rw [List.mem_filter, List.mem_range]
  constructor
  · intro ⟨h1, h2⟩; exact (h.wait h1).mp h2
  · intro q; exact ⟨(h.2.1 o q).1, (h.wait (h.2.1 o q).1).mpr q⟩
theorem pc_inv.cnt (h : pc_inv B r K N wl) (q : Nat → Bool) : pc_cnt (fun z => pc_wait r z && q z) N = wl.countP q := by
  rw [pc_cntP, ← h.perm.countP_eq, List.countP_filter]
  exact congrArg (fun z => List.countP z (List.range N)) (funext fun z => Bool.and_comm _ _)
theorem pc_inv.waiting (h : pc_inv B r K N wl) : pc_waiting r N = wl.length := by
  have e := h.cnt (fun _ => true)
  rw [List.countP_true] at e
  rw [← e]
  exact congrArg (fun z => pc_cnt z N) (funext fun z => (Bool.and_true _).symm)
theorem pc_inv.len (h : pc_inv B r K N wl) : wl.length ≤ N := by rw [← h.waiting]; exact pc_cnt_le _ _
theorem pc_inv.place (h : pc_inv B r K N wl) {p : Nat} (hp : p < wl.length) : pc_place r N wl[p] = p := by
  unfold pc_place pc_placep
  rw [h.cnt (fun z => decide (pc_of r z 10 < pc_of r wl[p] 10))]
  exact pc_countP_pos (fun z => pc_of r z 10) wl h.2.2.2.1 p hp
theorem pc_getD {wl : List Nat} {p : Nat} (hp : p < wl.length) : wl.getD p 0 = wl[p] := by simp [List.getD, hp]
theorem pc_inv.memD (h : pc_inv B r K N wl) {p : Nat} (hp : p < wl.length) : wl.getD p 0 ∈ wl := by rw [pc_getD hp]; exact List.getElem_mem hp
theorem pc_inv.ltD (h : pc_inv B r K N wl) {p : Nat} (hp : p < wl.length) : wl.getD p 0 < N := (h.2.1 _ (h.memD hp)).1
theorem pc_inv.wat (h : pc_inv B r K N wl) {p : Nat} (hp : p < wl.length) : pc_wat r N (nI p) = wl.getD p 0 := by
  have hlt := h.ltD hp
  have hN := h.N8
  have hlen := h.len
  refine pc_fst_at hlt (fun z hz => ?_) ?_
  · cases hc : pc_watp r N (nI p) z with
    | false => rfl
    | true =>
      exfalso
      unfold pc_watp at hc
      rw [Bool.and_eq_true, decide_eq_true_iff] at hc
      obtain ⟨i, hi, e⟩ := List.getElem_of_mem ((h.wait (Nat.lt_trans hz hlt)).mp hc.1)
      have h3 := h.place hi
      rw [e] at h3
      have h4 : i < 2 ^ 31 := by omega
      rw [h3] at hc
      have h5 := (nI_eq h4 (by omega)).mp hc.2
      subst h5
      rw [pc_getD hp] at hz
      omega
  · unfold pc_watp
    rw [(h.wait hlt).mpr (h.memD hp), pc_getD hp, h.place hp]
    simp
theorem pc_inv.nx (h : pc_inv B r K N wl) {p : Nat} (hp : p < wl.length) : pc_nx (pc_wat r N (nI p)) N = nI (wl.getD p 0) := by
  rw [h.wat hp, pc_nx_lt (h.ltD hp)]
end INV
def pc_kindOf (r : Nat → Int32) (o : Nat) : Nat := (pc_of r o 8).toNatClampNeg - 1
theorem pc_inv.kind {B K N : Nat} {r : Nat → Int32} {wl : List Nat} (h : pc_inv B r K N wl) {o : Nat} (ho : o ∈ wl) : pc_kindOf r o < K ∧ pc_of r o 8 = nI (pc_kindOf r o + 1) := by
  obtain ⟨-, k, hk, e⟩ := h.2.1 o ho
  have hK4 := h.K4
  unfold pc_kindOf
  rw [e, nI_clamp (by omega)]
  exact ⟨by omega, by rw [Nat.add_sub_cancel]⟩
theorem pc_inv.kindI {B K N : Nat} {r : Nat → Int32} {wl : List Nat} (h : pc_inv B r K N wl) {o : Nat} (ho : o ∈ wl) : pc_of r o 8 - nI 1 = nI (pc_kindOf r o) := by
  rw [(h.kind ho).2, pk_sub (by omega), Nat.add_sub_cancel]
def pc_canW (r : Nat → Int32) (K N o : Nat) : Bool := pc_can r K N o (pc_kindOf r o) (pc_of r o 9)
def pc_ffp (r : Nat → Int32) (K N : Nat) (wl : List Nat) (i : Nat) : Bool := pc_canW r K N (wl.getD i 0)
def pc_ff (r : Nat → Int32) (K N : Nat) (wl : List Nat) : Nat := pc_fst (pc_ffp r K N wl) wl.length
def pc_ffv (r : Nat → Int32) (K N : Nat) (wl : List Nat) : Int32 := if pc_ff r K N wl < wl.length then nI (wl.getD (pc_ff r K N wl) 0) else -1
def pc_served (r : Nat → Int32) (o : Nat) : Nat → Int32 := pc_grants (pc_forgets r o) o (pc_kindOf r o) (pc_of r o 9)
/-- serving: how many, the row and who waits then -/
def pc_sv (K N : Nat) : Nat → (Nat → Int32) → List Nat → Nat × (Nat → Int32) × List Nat
  | 0, r, wl => (0, r, wl)
  | n + 1, r, wl =>
    if pc_ff r K N wl < wl.length then
      ((pc_sv K N n (pc_served r (wl.getD (pc_ff r K N wl) 0)) (wl.eraseIdx (pc_ff r K N wl))).1 + 1, (pc_sv K N n (pc_served r (wl.getD (pc_ff r K N wl) 0)) (wl.eraseIdx (pc_ff r K N wl))).2)
    else (0, r, wl)
def pc_serve (r : Nat → Int32) (K N : Nat) (wl : List Nat) : Nat × (Nat → Int32) × List Nat := pc_sv K N wl.length r wl
theorem pc_of_upd_ne {r : Nat → Int32} {i o w : Nat} {x : Int32} (h : 13 + 11 * o + w ≠ i) : pc_of (upd r i x) o w = pc_of r o w := pc_upd_ne h
theorem pc_of_lays {r : Nat → Int32} {o w o2 w2 : Nat} {x : Int32} (hw : w < 11) (hw2 : w2 < 11) (h : ¬ (o = o2 ∧ w = w2)) : pc_of (pc_lays r o2 w2 x) o w = pc_of r o w := pc_of_upd_ne (by omega)
theorem pc_of_lays_eq {r : Nat → Int32} {o w : Nat} {x : Int32} : pc_of (pc_lays r o w x) o w = x := pc_upd_eq
theorem pc_of_gives {r : Nat → Int32} {o w o2 k : Nat} {x : Int32} (hw : w < 11) (hk : k < 4) (h : ¬ (o = o2 ∧ w = 4 + k)) : pc_of (pc_gives r o2 k x) o w = pc_of r o w := pc_of_upd_ne (by omega)
theorem pc_of_plus {r : Nat → Int32} {i o w : Nat} {x : Int32} (h : i < 13) : pc_of (pc_plus r i x) o w = pc_of r o w := pc_of_upd_ne (by omega)
theorem pc_plus_ne {r : Nat → Int32} {i j : Nat} {x : Int32} (h : j ≠ i) : pc_plus r i x j = r j := pc_upd_ne h
/-- rows that agree where the shape and the waiting lie -/
theorem pc_inv.same {B K N : Nat} {r r2 : Nat → Int32} {wl : List Nat} (h : pc_inv B r K N wl) (h0 : ∀ j, j < 3 → r2 j = r j) (h1 : ∀ o w, o < N → 8 ≤ w → w < 11 → pc_of r2 o w = pc_of r o w) : pc_inv B r2 K N wl := by
  have hm : ∀ o, o ∈ wl → o < N := fun o ho => (h.2.1 o ho).1
  obtain ⟨⟨a1, a2, a3⟩, b, c, d, J, e1, e2, e3⟩ := h
  refine ⟨⟨by rw [h0 0 (by omega)]; exact a1, by rw [h0 1 (by omega)]; exact a2, a3⟩, fun o ho => ?_, fun o ho hn => ?_, ?_, J, by rw [h0 2 (by omega)]; exact e1, e2, fun o ho => ?_⟩
  · rw [h1 o 8 (hm o ho) (by omega) (by omega)]; exact b o ho
  · rw [h1 o 8 ho (by omega) (by omega), h1 o 9 ho (by omega) (by omega)]; exact c o ho hn
  · refine List.Pairwise.imp_of_mem (fun {a b} ha hb q => ?_) d
    rw [h1 a 10 (hm a ha) (by omega) (by omega), h1 b 10 (hm b hb) (by omega) (by omega)]; exact q
  · rw [h1 o 10 (hm o ho) (by omega) (by omega)]; exact e3 o ho
theorem pc_inv.gives {B K N : Nat} {r : Nat → Int32} {wl : List Nat} (h : pc_inv B r K N wl) {o k : Nat} (x : Int32) (hk : k < 4) : pc_inv B (pc_gives r o k x) K N wl :=
  h.same (fun j hj => pc_gives_lo (by omega)) (fun o2 w _ h1 h2 => pc_of_gives h2 hk (by omega))
theorem pc_inv.plus {B K N : Nat} {r : Nat → Int32} {wl : List Nat} (h : pc_inv B r K N wl) {i : Nat} (x : Int32) (hi : 3 ≤ i) (h13 : i < 13) : pc_inv B (pc_plus r i x) K N wl :=
  h.same (fun j hj => pc_plus_ne (by omega)) (fun o2 w _ h1 h2 => pc_of_plus h13)
theorem pc_inv.lays {B K N : Nat} {r : Nat → Int32} {wl : List Nat} (h : pc_inv B r K N wl) {o w : Nat} (x : Int32) (hw : w < 8) : pc_inv B (pc_lays r o w x) K N wl :=
  h.same (fun j hj => pc_lays_lo (by omega)) (fun o2 w2 _ h1 h2 => pc_of_lays h2 (by omega) (by omega))
theorem pc_inv.grants {B K N : Nat} {r : Nat → Int32} {wl : List Nat} (h : pc_inv B r K N wl) {o k : Nat} (x : Int32) (hk : k < 4) : pc_inv B (pc_grants r o k x) K N wl :=
  ((h.gives x hk).plus _ (by omega) (by omega)).plus _ (by omega) (by omega)
theorem pc_of_forgets {r : Nat → Int32} {o o2 w : Nat} (hw : w < 11) (h : o ≠ o2 ∨ w < 8) : pc_of (pc_forgets r o2) o w = pc_of r o w := by
  unfold pc_forgets
  rw [pc_of_lays hw (by omega) (by omega), pc_of_lays hw (by omega) (by omega), pc_of_lays hw (by omega) (by omega)]
theorem pc_inv.forgets {B K N : Nat} {r : Nat → Int32} {wl : List Nat} (h : pc_inv B r K N wl) (o : Nat) : pc_inv B (pc_forgets r o) K N (wl.erase o) := by
  have hnd := h.nodup
  have hne : ∀ z, z ∈ wl.erase o → z ≠ o ∧ z ∈ wl := fun z hz => (hnd.mem_erase_iff).mp hz
  obtain ⟨⟨a1, a2, a3⟩, b, c, d, J, e1, e2, e3⟩ := h
  refine ⟨⟨by rw [pc_forgets_lo (by omega)]; exact a1, by rw [pc_forgets_lo (by omega)]; exact a2, a3⟩, fun z hz => ?_, fun z hz hn => ?_, ?_, J, by rw [pc_forgets_lo (by omega)]; exact e1, e2, fun z hz => ?_⟩
  · rw [pc_of_forgets (by omega) (Or.inl (hne z hz).1)]; exact b z (hne z hz).2
  · by_cases q : z = o
    · subst q
      constructor
      · unfold pc_forgets
        rw [pc_of_lays (by omega) (by omega) (by omega), pc_of_lays (by omega) (by omega) (by omega), pc_of_lays_eq]
      · unfold pc_forgets
        rw [pc_of_lays (by omega) (by omega) (by omega), pc_of_lays_eq]
    · rw [pc_of_forgets (by omega) (Or.inl q), pc_of_forgets (by omega) (Or.inl q)]
      exact c z hz (fun hm => hn ((hnd.mem_erase_iff).mpr ⟨q, hm⟩))
  · refine List.Pairwise.imp_of_mem (fun {x y} hx hy q => ?_) (d.sublist List.erase_sublist)
    rw [pc_of_forgets (by omega) (Or.inl (hne x hx).1), pc_of_forgets (by omega) (Or.inl (hne y hy).1)]; exact q
  · rw [pc_of_forgets (by omega) (Or.inl (hne z hz).1)]; exact e3 z (hne z hz).2
theorem pc_erase_idx : ∀ {wl : List Nat}, wl.Nodup → ∀ {p : Nat}, p < wl.length → wl.eraseIdx p = wl.erase (wl.getD p 0)
  | [], _, p, hp => absurd hp (Nat.not_lt_zero _)
  | a :: l, _, 0, _ => by simp [List.getD]
  | a :: l, hn, p + 1, hp => by
    have hl : p < l.length := Nat.lt_of_succ_lt_succ hp
    obtain ⟨h1, h2⟩ := List.nodup_cons.mp hn
    have e : (a :: l).getD (p + 1) 0 = l.getD p 0 := rfl
    have hm : l.getD p 0 ∈ l := by rw [pc_getD hl]; exact List.getElem_mem hl
    have hne : ¬ (a == l.getD p 0) = true := by
      intro q
      rw [beq_iff_eq] at q
      exact h1 (q ▸ hm)
    rw [e, List.eraseIdx_cons_succ, List.erase_cons_tail hne, pc_erase_idx h2 hl]
theorem pc_inv.served {B K N : Nat} {r : Nat → Int32} {wl : List Nat} (h : pc_inv B r K N wl) {p : Nat} (hp : p < wl.length) : pc_inv B (pc_served r (wl.getD p 0)) K N (wl.eraseIdx p) := by
  rw [pc_erase_idx h.nodup hp]
  exact (h.forgets _).grants _ (Nat.lt_of_lt_of_le (h.kind (h.memD hp)).1 h.K4)
theorem pc_inv.ffv_at {B K N : Nat} {r : Nat → Int32} {wl : List Nat} (h : pc_inv B r K N wl) {i : Nat} (hi : i < wl.length) (hp : ∀ z, z < i → pc_ffp r K N wl z = false) (hc : pc_ffp r K N wl i = true) : nI (wl.getD i 0) = pc_ffv r K N wl := by
  have e : pc_ff r K N wl = i := pc_fst_at hi hp hc
  unfold pc_ffv
  rw [e, if_pos hi]
theorem pc_ffv_no {K N : Nat} {r : Nat → Int32} {wl : List Nat} {i : Nat} (hi : wl.length ≤ i) (hp : ∀ z, z < i → pc_ffp r K N wl z = false) : -1 = pc_ffv r K N wl := by
  have e : pc_ff r K N wl = wl.length := pc_fst_no (fun z hz => hp z (Nat.lt_of_lt_of_le hz hi))
  unfold pc_ffv
  rw [e, if_neg (Nat.lt_irrefl _)]
theorem pc_ffv_ne {B K N : Nat} {r : Nat → Int32} {wl : List Nat} (h : pc_inv B r K N wl) (hc : ¬ pc_ffv r K N wl = -1) : pc_ff r K N wl < wl.length ∧ pc_ffv r K N wl = nI (wl.getD (pc_ff r K N wl) 0) := by
  have q : pc_ff r K N wl < wl.length := Decidable.byContradiction fun q => hc (if_neg q)
  exact ⟨q, if_pos q⟩
theorem pc_ffv_eq {B K N : Nat} {r : Nat → Int32} {wl : List Nat} (h : pc_inv B r K N wl) (hc : pc_ffv r K N wl = -1) : ¬ pc_ff r K N wl < wl.length := fun q => by
  have e : pc_ffv r K N wl = nI (wl.getD (pc_ff r K N wl) 0) := if_pos q
  have h8 := h.N8
  have h9 := h.ltD q
  exact pc_nI_ne (by omega) (e.symm.trans hc)
theorem pc_sv_step {K N : Nat} {r : Nat → Int32} {wl : List Nat} (q : pc_ff r K N wl < wl.length) : pc_serve r K N wl = ((pc_serve (pc_served r (wl.getD (pc_ff r K N wl) 0)) K N (wl.eraseIdx (pc_ff r K N wl))).1 + 1, (pc_serve (pc_served r (wl.getD (pc_ff r K N wl) 0)) K N (wl.eraseIdx (pc_ff r K N wl))).2) := by
  unfold pc_serve
  obtain ⟨n, hn⟩ : ∃ n, wl.length = n + 1 := ⟨wl.length - 1, by omega⟩
  have hl : (wl.eraseIdx (pc_ff r K N wl)).length = n := by rw [List.length_eraseIdx_of_lt q, hn]; rfl
  rw [hl, hn]
  rw [pc_sv, if_pos q]
theorem pc_sv_stop {K N : Nat} {r : Nat → Int32} {wl : List Nat} (q : ¬ pc_ff r K N wl < wl.length) : pc_serve r K N wl = (0, r, wl) := by
  unfold pc_serve
  cases hl : wl.length with
  | zero => rfl
  | succ n => rw [pc_sv, if_neg q]
theorem pc_sv_inv {B K N : Nat} : ∀ (n : Nat) (r : Nat → Int32) (wl : List Nat), wl.length = n → pc_inv B r K N wl → pc_inv B (pc_serve r K N wl).2.1 K N (pc_serve r K N wl).2.2 ∧ (pc_serve r K N wl).1 ≤ n := by
  intro n
  induction n with
  | zero =>
    intro r wl hl h
    rw [pc_sv_stop (by rw [hl]; exact Nat.not_lt_zero _)]
    exact ⟨h, Nat.le_refl _⟩
  | succ n ih =>
    intro r wl hl h
    by_cases q : pc_ff r K N wl < wl.length
    · rw [pc_sv_step q]
      obtain ⟨i1, i2⟩ := ih _ (wl.eraseIdx (pc_ff r K N wl)) (by rw [List.length_eraseIdx_of_lt q, hl]; rfl) (h.served q)
      exact ⟨i1, Nat.succ_le_succ i2⟩
    · rw [pc_sv_stop q]
      exact ⟨h, Nat.zero_le _⟩
theorem pc_inv.serve {B K N : Nat} {r : Nat → Int32} {wl : List Nat} (h : pc_inv B r K N wl) : pc_inv B (pc_serve r K N wl).2.1 K N (pc_serve r K N wl).2.2 := (pc_sv_inv _ r wl rfl h).1
theorem pc_serve_le {B K N : Nat} {r : Nat → Int32} {wl : List Nat} (h : pc_inv B r K N wl) : (pc_serve r K N wl).1 ≤ 8 := Nat.le_trans (pc_sv_inv _ r wl rfl h).2 (Nat.le_trans h.len h.N8)
/-! what orders do to the row -/
def pc_rel (r : Nat → Int32) (o k : Nat) (x : Int32) : Nat → Int32 := pc_plus (pc_gives r o k (-x)) 8 x
def pc_fin (r : Nat → Int32) (o : Nat) : Nat → Nat → Int32
  | 0 => pc_forgets r o
  | i + 1 => pc_lays (pc_plus (pc_fin r o i) 8 (pc_of (pc_fin r o i) o (4 + i))) o (4 + i) (nI 0)
theorem pc_fin_inv {B K N : Nat} {r : Nat → Int32} {wl : List Nat} (h : pc_inv B r K N wl) (o : Nat) {i : Nat} (hi : i ≤ 4) : pc_inv B (pc_fin r o i) K N (wl.erase o) := by
  induction i with
  | zero => exact h.forgets o
  | succ i ih => exact ((ih (by omega)).plus _ (by omega) (by omega)).lays _ (by omega)
def pc_join (y : Nat → Int32) (o : Nat) : Nat → Int32 := pc_plus (pc_lays y o 10 (y 2)) 2 (nI 1)
def pc_wish (r : Nat → Int32) (o k : Nat) (x b : Int32) : Nat → Int32 := pc_join (pc_lays (pc_lays (pc_plus (pc_plus r 5 (nI 1)) 6 b) o 8 (nI (k + 1))) o 9 x) o
def pc_delays (r : Nat → Int32) (N o k : Nat) (x : Int32) : Nat → Int32 := pc_wish r o k x (pc_b (!decide (pc_free (pc_plus r 5 (nI 1)) N k < x)))
theorem pc_wish_lo {r : Nat → Int32} {o k : Nat} {x b : Int32} {j : Nat} (h : j < 2) : pc_wish r o k x b j = r j := by
  unfold pc_wish pc_join
  rw [pc_plus_ne (by omega), pc_lays_lo (by omega), pc_lays_lo (by omega), pc_lays_lo (by omega), pc_plus_ne (by omega), pc_plus_ne (by omega)]
theorem pc_wish1 {r : Nat → Int32} {o k N : Nat} {x b : Int32} (h : r 1 = nI N) : pc_wish r o k x b 1 = nI N := (pc_wish_lo (by omega)).trans h
def pc_reqr (r : Nat → Int32) (K N o k : Nat) (x : Int32) : Nat → Int32 := if pc_can r K N o k x = true then pc_grants r o k x else pc_delays r N o k x
def pc_reqv (r : Nat → Int32) (K N o k : Nat) (x : Int32) : Int32 := if pc_can r K N o k x = true then nI 0 else nI (pc_waiting (pc_delays r N o k x) N)
def pc_cp (g : Nat → Nat → Int32) (i j a0 a1 : Nat) : Nat → Nat → Int32
  | 0 => g j
  | k + 1 => upd (pc_cp g i j a0 a1 k) (a1 + k) ((va_up g j (pc_cp g i j a0 a1 k)) i (a0 + k))
theorem pc_upself {α : Type} (g : Nat → α) (j : Nat) : g = va_up g j (g j) := by
  funext k
  unfold va_up
  split
  · rename_i e; rw [e]
  · rfl
def pc_un (u : Nat) : Nat := if u = 8 then 8 else u + 1
def pc_keep (g : Nat → Nat → Int32) (u : Nat) : Nat → Int32 := if u = 8 then pc_cp (va_up g 5 (pc_cp g 5 5 101 0 707)) 1 5 0 (101 * 7) 101 else pc_cp g 1 5 0 (101 * u) 101
def pc_can0 (r : Nat → Int32) (o k : Nat) (x : Int32) : Bool := !pc_wait r o && !decide (pc_need r o k < x)
def pc_can1 (r : Nat → Int32) (o k : Nat) (x : Int32) : Bool := !decide (pc_of r o (4 + k) < x)
def pc_can5 (r : Nat → Int32) (k : Nat) (x : Int32) : Bool := !decide (nI 40 < r (9 + k) + x)
/-! what the queries answer -/
def pc_best (lt : Nat → Nat → Bool) : Nat → Nat
  | 0 => 0
  | n + 1 => if lt n (pc_best lt n) then n else pc_best lt n
theorem pc_best1 {lt : Nat → Nat → Bool} (h : lt 0 0 = false) : pc_best lt 1 = 0 := by simp [pc_best, h]
theorem pc_best_lt (lt : Nat → Nat → Bool) {n : Nat} (h : 1 ≤ n) : pc_best lt n < n := by
  induction n with
  | zero => exact absurd h (by omega)
  | succ n ih =>
    unfold pc_best
    split
    · exact Nat.lt_succ_self n
    · rcases Nat.eq_zero_or_pos n with rfl | q
      · exact Nat.zero_lt_one
      · exact Nat.lt_succ_of_lt (ih q)
def pc_scar (r : Nat → Int32) (N n b : Nat) : Bool := !decide (pc_free r N b ≤ pc_free r N n)
def pc_most (r : Nat → Int32) (K n b : Nat) : Bool := !decide (pc_heldOf r K n ≤ pc_heldOf r K b)
theorem pc_le_rf (a : Int32) : a ≤ a := by rw [Int32.le_iff_toInt_le]; omega
theorem pc_scar_irr (r : Nat → Int32) (N n : Nat) : pc_scar r N n n = false := by simp [pc_scar, pc_le_rf]
theorem pc_most_irr (r : Nat → Int32) (K n : Nat) : pc_most r K n n = false := by simp [pc_most, pc_le_rf]
def pc_tot (r : Nat → Int32) (K : Nat) : Int32 := pc_sum (fun z9 => r (9 + z9)) K
def pc_util (r : Nat → Int32) (K N : Nat) : UInt32 := if pc_tot r K = 0 then FP.fconst0 else FP.fdiv (FP.i2f (pc_heldAll r K N)) (FP.i2f (pc_tot r K))
def pc_fin0 (r : Nat → Int32) (K N o : Nat) : Bool := pc_fits r K N o 0
def pc_nsum (r : Nat → Int32) (K : Nat) : Nat → Int32
  | 0 => nI 0
  | n + 1 => pc_acc (pc_nsum r K n) (fun z9 => pc_need r n z9) K
def pc_needAll (r : Nat → Int32) (K N : Nat) : Int32 := pc_nsum r K N
def pc_waitk (r : Nat → Int32) (k o : Nat) : Int32 := if pc_of r o 8 = nI (k + 1) then pc_of r o 9 else nI 0
def pc_waited (r : Nat → Int32) (N k : Nat) : Int32 := pc_sum (pc_waitk r k) N
def pc_obst (r : Nat → Int32) (K N o k : Nat) (x : Int32) : Int32 := if pc_wait r o = true then nI 1 else if ¬ x ≤ pc_need r o k then nI 2 else if ¬ x ≤ pc_free r N k then nI 3 else if pc_safeWith r K N o k x = true then nI 0 else nI 4
/-! counting down, counting orders -/
def pc_downN (p : Int32 → Bool) : Nat → Int32
  | 0 => nI 0
  | n + 1 => if p (nI (n + 1)) then nI (n + 1) else pc_downN p n
/-- the greatest count from x down for which p holds; x itself, if it is not positive -/
def pc_down (p : Int32 → Bool) (x : Int32) : Int32 := if x ≤ 0 then x else pc_downN p x.toNatClampNeg
theorem pc_pos_nat {x : Int32} (h : ¬ x ≤ 0) : ∃ n, n + 1 < 2 ^ 31 ∧ x = nI (n + 1) := by
  have h0 : ¬ x < 0 := fun q => h (by rw [Int32.lt_iff_toInt_lt] at q; rw [Int32.le_iff_toInt_le]; omega)
  obtain ⟨j, hj, rfl⟩ := nI_of h0
  cases j with
  | zero => exact absurd (by rw [nI_0]; exact pc_le_rf 0) h
  | succ n => exact ⟨n, hj, rfl⟩
theorem pc_down_0 {p : Int32 → Bool} {x : Int32} (h : x ≤ 0) : pc_down p x = x := if_pos h
theorem pc_down_yes {p : Int32 → Bool} {x : Int32} (h : ¬ x ≤ 0) (hp : p x = true) : pc_down p x = x := by
  obtain ⟨n, hn, rfl⟩ := pc_pos_nat h
  unfold pc_down
  rw [if_neg h, nI_clamp hn, pc_downN, if_pos hp]
theorem pc_down_no {p : Int32 → Bool} {x : Int32} (h : ¬ x ≤ 0) (hp : p x = false) : pc_down p x = pc_down p (x + (-1)) := by
  obtain ⟨n, hn, rfl⟩ := pc_pos_nat h
  rw [pk_m1]
  unfold pc_down
  rw [if_neg h, nI_clamp hn, pc_downN, if_neg (by simp [hp])]
  split
  · rename_i q
    cases n with
    | zero => rfl
    | succ n => exact absurd q (nI_nle (by omega) (by omega))
  · rw [nI_clamp (by omega)]
theorem pc_down_lt {x : Int32} (h : ¬ x ≤ 0) : (x + (-1)).toNatClampNeg < x.toNatClampNeg := by
  obtain ⟨n, hn, rfl⟩ := pc_pos_nat h
  rw [pk_m1, nI_clamp hn, nI_clamp (by omega)]
  omega
def pc_grg (r : Nat → Int32) (K N o k : Nat) : Int32 := pc_down (pc_can r K N o k) (pc_need r o k)
def pc_size : Nat → Nat := fun s => pc_cnt (fun z => s.testBit z) 8
theorem pc_size_step {s : Nat} (h : s < 256) : pc_size s = s % 2 + pc_size (s / 2) := by
  have h1 : ∀ s : Fin 256, pc_size s.val = s.val % 2 + pc_size (s.val / 2) := by decide +kernel
  exact h1 ⟨s, h⟩
theorem pc_and1 {s : Nat} (h : s < 256) : nI s &&& nI 1 = nI (s % 2) := pk_andN (by omega) 1 (by decide)
theorem pc_half {s : Nat} (h : s < 256) : nI s >>> (nI 1 &&& 31) = nI (s / 2) := by
  rw [pc_a31 (by decide)]
  exact pk_shrN (by omega) (nI 1) 1 (by decide)
def pc_zero (w : Nat → Int32) : Nat → Nat → Int32
  | 0 => w
  | n + 1 => upd (pc_zero w n) n (nI 0)
def pc_w0 (w : Nat → Int32) (N : Nat) : Nat → Int32 := upd (pc_zero w (2 ^ N)) 0 (nI 1)
def pc_cin (r : Nat → Int32) (K N S : Nat) (w : Nat → Int32) : Nat → Nat → Int32
  | 0 => w
  | o + 1 => if !S.testBit o && pc_fits r K N o S then upd (pc_cin r K N S w o) (S ||| 1 <<< o) (pc_cin r K N S w o (S ||| 1 <<< o) + pc_cin r K N S w o S) else pc_cin r K N S w o
def pc_cout (r : Nat → Int32) (K N : Nat) (w : Nat → Int32) : Nat → Nat → Int32
  | 0 => w
  | S + 1 => if pc_cout r K N w S S ≤ 0 then pc_cout r K N w S else pc_cin r K N S (pc_cout r K N w S) N
def pc_ways (r : Nat → Int32) (K N : Nat) (w : Nat → Int32) : Nat → Int32 := pc_cout r K N (pc_w0 w N) (2 ^ N)
theorem pc_bit_ne {S o : Nat} (h : S.testBit o = false) : S ≠ S ||| 1 <<< o := by
  intro e
  have h1 : (S ||| 1 <<< o).testBit o = true := by simp [Nat.testBit_or, Nat.testBit_shiftLeft]
  rw [← e, h] at h1
  cases h1
theorem pc_cin_self {r : Nat → Int32} {K N S : Nat} {w : Nat → Int32} {o : Nat} : pc_cin r K N S w o S = w S := by
  induction o with
  | zero => rfl
  | succ o ih =>
    unfold pc_cin
    split
    · rename_i h
      rw [Bool.and_eq_true, Bool.not_eq_true'] at h
      rw [pc_upd_ne (pc_bit_ne h.1), ih]
    · exact ih
theorem pc_cout_N {r : Nat → Int32} {K N S o : Nat} {w : Nat → Int32} (ho : o = N) (h : ¬ pc_cout r K N w S S ≤ 0) : pc_cin r K N S (pc_cout r K N w S) o = pc_cout r K N w (S + 1) := by
  subst ho
  rw [pc_cout, if_neg h]
theorem pc_cout_0 {r : Nat → Int32} {K N S o : Nat} {w : Nat → Int32} (h : pc_cin r K N S (pc_cout r K N w S) o S ≤ 0) (hw : o = 0 ∨ ¬ pc_cout r K N w S S ≤ 0) : pc_cin r K N S (pc_cout r K N w S) o = pc_cout r K N w (S + 1) := by
  rw [pc_cin_self] at h
  rcases hw with rfl | q
  · rw [pc_cout, if_pos h]; rfl
  · exact absurd h q
theorem pc_size_le (s : Nat) : pc_size s ≤ 8 := pc_cnt_le _ _
def pc_earlp (r : Nat → Int32) (K N o : Nat) (w : Nat → Int32) (b s : Nat) : Bool := !decide (w s ≤ 0) && (!s.testBit o && (pc_fits r K N o s && decide (pc_size s < b)))
def pc_earlN (r : Nat → Int32) (K N o : Nat) (w : Nat → Int32) : Nat → Nat
  | 0 => N
  | s + 1 => if pc_earlp r K N o w (pc_earlN r K N o w s) s then pc_size s else pc_earlN r K N o w s
theorem pc_earlN_le (r : Nat → Int32) (K N o : Nat) (w : Nat → Int32) (s : Nat) : pc_earlN r K N o w s ≤ N + 8 := by
  induction s with
  | zero => exact Nat.le_add_right _ _
  | succ s ih =>
    unfold pc_earlN
    split
    · have := pc_size_le s; omega
    · exact ih
def pc_earl (r : Nat → Int32) (K N o : Nat) (w : Nat → Int32) : Nat := pc_earlN r K N o w (2 ^ N)
/-! bytes, output -/
def pc_byte (v : Int32) (k : Nat) : Int32 := (v >>> (nI k &&& 31)) &&& nI 255
def pc_put4 (w : Nat → Int32) (b : Nat) (v : Int32) : Nat → Int32 := upd (upd (upd (upd w b (pc_byte v 24)) (b + 1) (pc_byte v 16)) (b + 1 + 1) (pc_byte v 8)) (b + 1 + 1 + 1) (pc_byte v 0)
def pc_put20 (w : Nat → Int32) (b : Nat) (v1 v2 v3 v4 v5 : Int32) : Nat → Int32 := pc_put4 (pc_put4 (pc_put4 (pc_put4 (pc_put4 w b v1) (b + 4) v2) (b + 4 + 4) v3) (b + 4 + 4 + 4) v4) (b + 4 + 4 + 4 + 4) v5
/-- a line that begins with the signs xs -/
def pc_lw (w : Nat → Int32) (xs : List Nat) : Nat → Int32 := fun j => if j < xs.length then nI (xs.getD j 0) else w j
theorem pc_lw_snoc (w : Nat → Int32) (xs : List Nat) (c : Nat) : upd (pc_lw w xs) xs.length (nI c) = pc_lw w (xs ++ [c]) := by
  funext j
  unfold upd pc_lw
  rw [List.length_append]
  by_cases h : j = xs.length
  · subst h
    rw [if_pos rfl, if_pos (by simp)]
    simp [List.getD]
  · rw [if_neg h]
    by_cases q : j < xs.length
    · rw [if_pos q, if_pos (by simp; omega)]
      simp [List.getD, List.getElem?_append_left q]
    · rw [if_neg q, if_neg (by simp; omega)]
theorem pc_lw_get (w : Nat → Int32) {xs : List Nat} {j : Nat} (h : j < xs.length) : pc_lw w xs j = nI (xs.getD j 0) := if_pos h
def pc_numT (v : Nat) : List Nat := if 9 < v then [48 + v / 10, 48 + v % 10] else [48 + v % 10]
theorem pc_irem {a d : Nat} (ha : a < 2 ^ 31) (h0 : 0 < d) (hd : d < 2 ^ 31) : nI a - nI a / nI d * nI d = nI (a % d) := pk_rem ha h0 hd
/-- claims and allocations in writing -/
def pc_text (hv cv : Nat → Nat) : Nat → List Nat
  | 0 => []
  | k + 1 => pc_text hv cv k ++ (if 0 < k then [32] else []) ++ pc_numT (hv k) ++ [47] ++ pc_numT (cv k)
theorem pc_numT_len (v : Nat) : (pc_numT v).length ≤ 2 := by unfold pc_numT; split <;> simp
theorem pc_text_len (hv cv : Nat → Nat) (k : Nat) : (pc_text hv cv k).length ≤ 6 * k := by
  induction k with
  | zero => exact Nat.le_refl _
  | succ k ih =>
    have h1 := pc_numT_len (hv k)
    have h2 := pc_numT_len (cv k)
    unfold pc_text
    simp only [List.length_append, List.length_cons, List.length_nil]
    split <;> simp <;> omega
def pc_byteAt (w : Nat → Int32) (E j : Nat) : Int32 := if j < E then w j else -1
def pc_errF (f : Nat → Int32) (x : Int32) : Nat → Int32 := if f 16 = 0 then va_up (va_up f 16 x) 17 (f 13) else f
