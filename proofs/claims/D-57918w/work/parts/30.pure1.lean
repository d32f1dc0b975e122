/-! PURE 1: sums, first places, the row of the state -/
def pc_acc (a : Int32) (f : Nat → Int32) : Nat → Int32
  | 0 => a
  | n + 1 => pc_acc a f n + f n
def pc_sum (f : Nat → Int32) (n : Nat) : Int32 := pc_acc 0 f n
def pc_cnt (p : Nat → Bool) : Nat → Nat
  | 0 => 0
  | n + 1 => pc_cnt p n + (if p n then 1 else 0)
def pc_all (p : Nat → Bool) : Nat → Bool
  | 0 => true
  | n + 1 => pc_all p n && p n
/-- the first place below n with p; n, if there is none -/
def pc_fst (p : Nat → Bool) : Nat → Nat
  | 0 => 0
  | n + 1 => if pc_fst p n < n then pc_fst p n else if p n then n else n + 1
def pc_nx (k n : Nat) : Int32 := if k < n then nI k else -1
theorem pc_acc_eq (a : Int32) (f : Nat → Int32) (n : Nat) : pc_acc a f n = a + pc_sum f n := by
  induction n with
  | zero => simp [pc_acc, pc_sum]
  | succ n ih =>
    show pc_acc a f n + f n = a + (pc_acc 0 f n + f n)
    rw [ih, Int32.add_assoc]; rfl
theorem pc_acc_congr {a : Int32} {f g : Nat → Int32} {n : Nat} (h : ∀ z, z < n → f z = g z) : pc_acc a f n = pc_acc a g n := by
  induction n with
  | zero => rfl
  | succ n ih =>
    show pc_acc a f n + f n = pc_acc a g n + g n
    rw [ih (fun z hz => h z (Nat.lt_succ_of_lt hz)), h n (Nat.lt_succ_self n)]
theorem pc_all_iff {p : Nat → Bool} {n : Nat} : pc_all p n = true ↔ ∀ z, z < n → p z = true := by
  induction n with
  | zero => simp [pc_all]
  | succ n ih =>
    simp only [pc_all, Bool.and_eq_true, ih]
    constructor
    · intro ⟨h1, h2⟩ z hz
      rcases Nat.lt_succ_iff_lt_or_eq.mp hz with q | rfl
      · exact h1 z q
      · exact h2
    · intro h
      exact ⟨fun z hz => h z (Nat.lt_succ_of_lt hz), h n (Nat.lt_succ_self n)⟩
theorem pc_all_t {p : Nat → Bool} {n : Nat} (h : ∀ z, z < n → p z = true) : pc_all p n = true := pc_all_iff.mpr h
theorem pc_all_f {p : Nat → Bool} {n i : Nat} (hi : i < n) (h : p i = false) : pc_all p n = false := by
  cases hc : pc_all p n with
  | false => rfl
  | true => rw [pc_all_iff.mp hc i hi] at h; cases h
theorem pc_fst_le (p : Nat → Bool) (n : Nat) : pc_fst p n ≤ n := by
  induction n with
  | zero => exact Nat.le_refl _
  | succ n ih =>
    unfold pc_fst
    split
    · omega
    · split <;> omega
theorem pc_fst_no {p : Nat → Bool} {n : Nat} (h : ∀ z, z < n → p z = false) : pc_fst p n = n := by
  induction n with
  | zero => rfl
  | succ n ih =>
    have e := ih (fun z hz => h z (Nat.lt_succ_of_lt hz))
    unfold pc_fst
    rw [e, if_neg (Nat.lt_irrefl n), h n (Nat.lt_succ_self n)]
    rfl
theorem pc_fst_at {p : Nat → Bool} {n i : Nat} (hi : i < n) (h : ∀ z, z < i → p z = false) (hp : p i = true) : pc_fst p n = i := by
  induction n with
  | zero => exact absurd hi (Nat.not_lt_zero _)
  | succ n ih =>
    unfold pc_fst
    rcases Nat.lt_succ_iff_lt_or_eq.mp hi with q | rfl
    · rw [ih q, if_pos q]
    · rw [pc_fst_no h, if_neg (Nat.lt_irrefl i), hp]; rfl
theorem pc_fst_lt {p : Nat → Bool} {n : Nat} (h : pc_fst p n < n) : p (pc_fst p n) = true ∧ ∀ z, z < pc_fst p n → p z = false := by
  induction n with
  | zero => exact absurd h (Nat.not_lt_zero _)
  | succ n ih =>
    by_cases q : pc_fst p n < n
    · have e : pc_fst p (n + 1) = pc_fst p n := by rw [pc_fst]; rw [if_pos q]
      rw [e]; exact ih q
    · have e0 : pc_fst p n = n := Nat.le_antisymm (pc_fst_le p n) (Nat.le_of_not_lt q)
      have hno : ∀ z, z < n → p z = false := by
        intro z hz
        cases hz2 : p z with
        | false => rfl
        | true =>
          exfalso
          have : ∀ m, z < m → pc_fst p m < m := by
            intro m
            induction m with
            | zero => intro hm; exact absurd hm (Nat.not_lt_zero _)
            | succ m ihm =>
              intro hm
              rcases Nat.lt_succ_iff_lt_or_eq.mp hm with q2 | rfl
              · rw [pc_fst, if_pos (ihm q2)]; exact Nat.lt_succ_of_lt (ihm q2)
              · unfold pc_fst
                split <;> first | omega | simp [hz2]
          exact q (this n hz)
      by_cases hp : p n = true
      · have e : pc_fst p (n + 1) = n := by rw [pc_fst, if_neg q, if_pos hp]
        rw [e]; exact ⟨hp, hno⟩
      · have e : pc_fst p (n + 1) = n + 1 := by rw [pc_fst, if_neg q, if_neg hp]
        omega
theorem pc_nx_lt {k n : Nat} (h : k < n) : pc_nx k n = nI k := if_pos h
theorem pc_nx_no {k n : Nat} (h : ¬ k < n) : pc_nx k n = -1 := if_neg h
theorem pc_nx_ne {k n : Nat} (h : ¬ pc_nx k n = -1) : k < n := Decidable.byContradiction fun q => h (pc_nx_no q)
theorem pc_nI_ne {k : Nat} (h : k < 2 ^ 31) : ¬ nI k = -1 := fun q => nI_pos h (by rw [q]; decide)
theorem pc_nx_eq {k n : Nat} (hn : n ≤ 2 ^ 31) (h : pc_nx k n = -1) : ¬ k < n := fun q => pc_nI_ne (Nat.lt_of_lt_of_le q hn) ((pc_nx_lt q).symm.trans h)
/-- an office's cell of the row -/
def pc_of (r : Nat → Int32) (o w : Nat) : Int32 := r (13 + 11 * o + w)
def pc_need (r : Nat → Int32) (o k : Nat) : Int32 := pc_of r o (0 + k) - pc_of r o (4 + k)
def pc_heldOf (r : Nat → Int32) (K o : Nat) : Int32 := pc_sum (fun z9 => pc_of r o (4 + z9)) K
def pc_held (r : Nat → Int32) (N k : Nat) : Int32 := pc_sum (fun z9 => pc_of r z9 (4 + k)) N
def pc_heldAll (r : Nat → Int32) (K N : Nat) : Int32 := pc_sum (fun z9 => pc_held r N z9) K
def pc_claimAll (r : Nat → Int32) (N k : Nat) : Int32 := pc_sum (fun z9 => pc_of r z9 (0 + k)) N
def pc_free (r : Nat → Int32) (N k : Nat) : Int32 := r (9 + k) - pc_held r N k
def pc_after (r : Nat → Int32) (N S k : Nat) : Int32 := pc_acc (pc_free r N k) (fun z9 => if S.testBit z9 then pc_of r z9 (4 + k) else 0) N
def pc_fitk (r : Nat → Int32) (N o S k : Nat) : Bool := decide (pc_need r o k ≤ pc_after r N S k)
def pc_fits (r : Nat → Int32) (K N o S : Nat) : Bool := pc_all (pc_fitk r N o S) K
def pc_nextp (r : Nat → Int32) (K N S o : Nat) : Bool := !S.testBit o && pc_fits r K N o S
def pc_next (r : Nat → Int32) (K N S : Nat) : Nat := pc_fst (pc_nextp r K N S) N
def pc_ones (r : Nat → Int32) (K N : Nat) : Nat → Nat
  | 0 => 0
  | i + 1 => if pc_next r K N (pc_ones r K N i) < N then pc_ones r K N i ||| 1 <<< pc_next r K N (pc_ones r K N i) else pc_ones r K N i
def pc_safe (r : Nat → Int32) (K N : Nat) : Bool := decide (pc_ones r K N N = 2 ^ N - 1)
def pc_wait (r : Nat → Int32) (o : Nat) : Bool := !decide (pc_of r o 8 ≤ 0)
def pc_waiting (r : Nat → Int32) (N : Nat) : Nat := pc_cnt (pc_wait r) N
def pc_placep (r : Nat → Int32) (o z : Nat) : Bool := pc_wait r z && decide (pc_of r z 10 < pc_of r o 10)
def pc_place (r : Nat → Int32) (N o : Nat) : Nat := pc_cnt (pc_placep r o) N
def pc_watp (r : Nat → Int32) (N : Nat) (p : Int32) (o : Nat) : Bool := pc_wait r o && decide (nI (pc_place r N o) = p)
def pc_wat (r : Nat → Int32) (N : Nat) (p : Int32) : Nat := pc_fst (pc_watp r N p) N
def pc_gives (r : Nat → Int32) (o k : Nat) (c : Int32) : Nat → Int32 := upd r (13 + 11 * o + (4 + k)) (pc_of r o (4 + k) + c)
def pc_safeWith (r : Nat → Int32) (K N o k : Nat) (c : Int32) : Bool := pc_safe (pc_gives r o k c) K N
def pc_can (r : Nat → Int32) (K N o k : Nat) (c : Int32) : Bool := !decide (pc_free r N k < c) && pc_safeWith r K N o k c
def pc_plus (r : Nat → Int32) (i : Nat) (x : Int32) : Nat → Int32 := upd r i (r i + x)
def pc_grants (r : Nat → Int32) (o k : Nat) (c : Int32) : Nat → Int32 := pc_plus (pc_plus (pc_gives r o k c) 4 (nI 1)) 7 c
def pc_lays (r : Nat → Int32) (o w : Nat) (x : Int32) : Nat → Int32 := upd r (13 + 11 * o + w) x
def pc_forgets (r : Nat → Int32) (o : Nat) : Nat → Int32 := pc_lays (pc_lays (pc_lays r o 8 (nI 0)) o 9 (nI 0)) o 10 (nI 0)
/-- the shape of a row -/
def pc_wf (r : Nat → Int32) (K N : Nat) : Prop := r 0 = nI K ∧ r 1 = nI N ∧ 1 ≤ K ∧ K ≤ 4 ∧ 1 ≤ N ∧ N ≤ 8
theorem pc_bit_lt {S o n : Nat} (hS : S < 2 ^ n) (ho : o < n) : S ||| 1 <<< o < 2 ^ n := by
  apply Nat.or_lt_two_pow hS
  rw [Nat.one_shiftLeft]
  exact Nat.pow_lt_pow_right (by decide) ho
theorem pc_ones_lt (r : Nat → Int32) (K N i : Nat) : pc_ones r K N i < 2 ^ N := by
  induction i with
  | zero => exact Nat.two_pow_pos N
  | succ i ih =>
    unfold pc_ones
    split
    · exact pc_bit_lt ih (by assumption)
    · exact ih
theorem pc_two {N : Nat} (h : N ≤ 8) : 2 ^ N ≤ 256 := Nat.pow_le_pow_right (by decide) h
theorem pc_ones_256 (r : Nat → Int32) {K N : Nat} (h : N ≤ 8) (i : Nat) : pc_ones r K N i < 256 := Nat.lt_of_lt_of_le (pc_ones_lt r K N i) (pc_two h)
theorem pc_ones_stop {r : Nat → Int32} {K N i : Nat} (h : ¬ pc_next r K N (pc_ones r K N i) < N) {j : Nat} (hj : i ≤ j) : pc_ones r K N j = pc_ones r K N i := by
  induction j with
  | zero =>
    have : i = 0 := Nat.le_zero.mp hj
    rw [this]
  | succ j ih =>
    rcases Nat.lt_or_ge j i with q | q
    · have : i = j + 1 := by omega
      rw [this]
    · rw [pc_ones, ih q, if_neg h]
theorem pc_a31 {o : Nat} (ho : o ≤ 31) : nI o &&& 31 = nI o := by
  have h1 : ∀ o : Fin 32, nI o.val &&& 31 = nI o.val := by decide +kernel
  exact h1 ⟨o, by omega⟩
theorem pc_has {S o : Nat} (hS : S < 256) (ho : o < 8) : (nI S >>> (nI o &&& 31) &&& nI 1 = nI 1) ↔ S.testBit o = true := by
  have h1 : ∀ o : Fin 8, ((nI o.val).toBitVec.smod 32).toNat = o.val := by decide +kernel
  rw [pc_a31 (by omega), pk_shrN (by omega) (nI o) o (h1 ⟨o, ho⟩), pk_andN (Nat.lt_of_le_of_lt (Nat.div_le_self _ _) (by omega)) 1 (by decide), nI_eq (by omega) (by decide), Nat.testBit_eq_decide_div_mod_eq, decide_eq_true_iff]
theorem pc_shl1 {o : Nat} (ho : o ≤ 8) : nI 1 <<< (nI o &&& 31) = nI (1 <<< o) := by
  have h1 : ∀ o : Fin 9, nI 1 <<< (nI o.val &&& 31) = nI (1 <<< o.val) := by decide +kernel
  exact h1 ⟨o, by omega⟩
theorem pc_shlN {o : Nat} (ho : o ≤ 8) : nI 1 <<< (nI o &&& 31) = nI (2 ^ o) := by rw [pc_shl1 ho, Nat.one_shiftLeft]
theorem pc_ior {a b : Nat} (ha : a < 256) (hb : b < 256) : nI a ||| nI b = nI (a ||| b) := by
  have h1 : a ||| b < 2 ^ 8 := Nat.or_lt_two_pow ha hb
  apply Int32.toBitVec_inj.mp
  apply BitVec.eq_of_toNat_eq
  rw [Int32.toBitVec_or, BitVec.toNat_or, pk_tn (by omega), pk_tn (by omega), pk_tn (by omega)]
theorem pc_shl1_lt {o : Nat} (ho : o < 8) : 1 <<< o < 256 := by rw [Nat.one_shiftLeft]; exact Nat.pow_lt_pow_right (a := 2) (by decide) ho

def pc_plain (x : Int32) : Int32 := if 0 ≤ x then x else -x
def pc_letter (x : Int32) : Bool := !decide (x < nI 97) && !decide (nI 122 < x)
def pc_figure (x : Int32) : Bool := !decide (x < nI 48) && !decide (nI 57 < x)
def pc_inr (v a b : Int32) : Bool := !decide (v < a) && !decide (b < v)
theorem pc_inr_nat {x : Int32} {n : Nat} (hn : n ≤ 2 ^ 30) : pc_inr x (nI 0) (nI n) = true ↔ ∃ k, k ≤ n ∧ x = nI k := by
  unfold pc_inr
  constructor
  · intro h
    simp only [Bool.and_eq_true, Bool.not_eq_true', decide_eq_false_iff_not] at h
    obtain ⟨k, hk, rfl⟩ := nI_of (x := x) (by rw [nI_0] at h; exact h.1)
    exact ⟨k, Nat.le_of_not_lt fun q => h.2 ((nI_ltI (by omega) hk).mpr q), rfl⟩
  · rintro ⟨k, hk, rfl⟩
    simp only [Bool.and_eq_true, Bool.not_eq_true', decide_eq_false_iff_not]
    exact ⟨nI_nlt (Nat.zero_le _) (by omega), nI_nlt hk (by omega)⟩
theorem pc_inr_K {x : Int32} {n : Nat} (h1 : 1 ≤ n) (hn : n ≤ 2 ^ 30) : pc_inr x (nI 0) (nI n - nI 1) = true ↔ ∃ k, k < n ∧ x = nI k := by
  rw [pk_sub h1, pc_inr_nat (by omega)]
  constructor
  · rintro ⟨k, hk, e⟩; exact ⟨k, by omega, e⟩
  · rintro ⟨k, hk, e⟩; exact ⟨k, by omega, e⟩
theorem pc_inr_ok {k n : Nat} (h : k < n) (hn : n ≤ 2 ^ 30) : pc_inr (nI k) (nI 0) (nI n - nI 1) = true := (pc_inr_K (by omega) hn).mpr ⟨k, h, rfl⟩
theorem pc_cnt_step (p : Nat → Bool) (i : Nat) : nI (pc_cnt p i) + pc_b (p i) = nI (pc_cnt p (i + 1)) := by
  show _ = nI (pc_cnt p i + (if p i then 1 else 0))
  rw [← nI_add]
  cases p i <;> rfl
theorem pc_cnt_le (p : Nat → Bool) (n : Nat) : pc_cnt p n ≤ n := by
  induction n with
  | zero => exact Nat.le_refl _
  | succ n ih =>
    show pc_cnt p n + (if p n then 1 else 0) ≤ n + 1
    split <;> omega
theorem pc_upd_ne {r : Nat → Int32} {i j : Nat} {x : Int32} (h : j ≠ i) : upd r i x j = r j := if_neg h
theorem pc_upd_eq {r : Nat → Int32} {i : Nat} {x : Int32} : upd r i x i = x := if_pos rfl
theorem pc_lays_lo {r : Nat → Int32} {o w : Nat} {x : Int32} {j : Nat} (h : j < 13) : pc_lays r o w x j = r j := if_neg (by omega)
theorem pc_gives_lo {r : Nat → Int32} {o k : Nat} {x : Int32} {j : Nat} (h : j < 13) : pc_gives r o k x j = r j := if_neg (by omega)
theorem pc_forgets_lo {r : Nat → Int32} {o : Nat} {j : Nat} (h : j < 13) : pc_forgets r o j = r j := by
  unfold pc_forgets
  rw [pc_lays_lo h, pc_lays_lo h, pc_lays_lo h]
theorem pc_addneg (a x : Int32) : a + x + -x = a := by rw [Int32.add_assoc, Int32.add_right_neg, Int32.add_zero]
theorem pc_subadd (a x : Int32) : a - x + x = a := by rw [Int32.sub_eq_add_neg, Int32.add_assoc, Int32.add_left_neg, Int32.add_zero]
theorem pc_upd2 (r : Nat → Int32) (i : Nat) (x : Int32) : upd (upd r i x) i (r i) = r := by
  funext j
  unfold upd
  split
  · rename_i e; rw [e]
  · rfl
theorem pc_giveback (r : Nat → Int32) (o k : Nat) (x : Int32) : pc_gives (pc_gives r o k x) o k (-x) = r := by
  have e : pc_of (pc_gives r o k x) o (4 + k) + -x = r (13 + 11 * o + (4 + k)) := by
    show upd r _ _ _ + -x = _
    rw [pc_upd_eq, pc_addneg]; rfl
  unfold pc_gives at e ⊢
  rw [e]
  exact pc_upd2 r _ _
theorem pc_layback (r : Nat → Int32) (o w : Nat) (x : Int32) : pc_lays (pc_lays r o w x) o w (pc_of r o w) = r := pc_upd2 r _ _
def pc_canClaim (r : Nat → Int32) (K N o k : Nat) (x : Int32) : Bool := !decide (x < pc_of r o (4 + k) + (if pc_of r o 8 = nI (k + 1) then pc_of r o 9 else nI 0)) && pc_safe (pc_lays r o (0 + k) x) K N
def pc_claimp (r : Nat → Int32) (k : Nat) (x : Int32) (o : Nat) : Bool := decide (pc_of r o (0 + k) ≤ r (9 + k) - x)
def pc_retires (r : Nat → Int32) (k : Nat) (x : Int32) : Nat → Int32 := upd r (9 + k) (r (9 + k) - x)
def pc_canRetire (r : Nat → Int32) (K N k : Nat) (x : Int32) : Bool := decide (x ≤ pc_free r N k) && (pc_all (pc_claimp r k x) N && pc_safe (pc_retires r k x) K N)
theorem pc_unretire (r : Nat → Int32) (i : Nat) (x : Int32) : upd (upd r i (r i - x)) i (upd r i (r i - x) i + x) = r := by
  rw [pc_upd_eq, pc_subadd]
  exact pc_upd2 r i _
theorem pc_dlt (a b : Int32) : decide (a < b) = !decide (b ≤ a) := by
  rw [Bool.eq_iff_iff]
  simp only [decide_eq_true_iff, Bool.not_eq_true', decide_eq_false_iff_not]
  rw [Int32.lt_iff_toInt_lt, Int32.le_iff_toInt_le]
  omega
