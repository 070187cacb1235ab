section
theorem wb_tb (n : Nat) : (lN n).toBitVec = BitVec.ofNat 64 n := rfl
theorem wb_inj {a b : Int64} (h : a.toBitVec = b.toBitVec) : a = b := Int64.toBitVec_inj.mp h
theorem wb_tn {n : Nat} (h : n < 2 ^ 64) : (lN n).toBitVec.toNat = n := by rw [wb_tb, BitVec.toNat_ofNat, Nat.mod_eq_of_lt h]
theorem wb_of (x : Int64) : ∃ n, n < 2 ^ 64 ∧ x = lN n := ⟨x.toBitVec.toNat, x.toBitVec.isLt, wb_inj (by rw [wb_tb]; simp)⟩
theorem wb_of32 (x : Int32) : ∃ n, n < 2 ^ 32 ∧ x = nI n := ⟨x.toBitVec.toNat, x.toBitVec.isLt, Int32.toBitVec_inj.mp (by show _ = BitVec.ofNat 32 _; simp)⟩
theorem wb_c : ∀ k, k < 64 → ((nI k).toInt64 &&& 63) = lN k := by decide +kernel
theorem wb_cu : ∀ k, k < 64 → ((nI k).toInt64.toUInt64 &&& Int64.toUInt64 63) = UInt64.ofNat k := by decide +kernel
theorem wb_sm : ∀ k, k < 64 → (BitVec.ofNat 64 k).smod 64 = BitVec.ofNat 64 k := by decide +kernel
theorem wb_lt2 {a b : Nat} (h : a < b) : 2 ^ a < 2 ^ b := Nat.pow_lt_pow_right (by decide) h
theorem wb_shr {n k : Nat} (hn : n < 2 ^ 64) (hk : k < 64) : ((lN n).toUInt64 >>> ((nI k).toInt64.toUInt64 &&& Int64.toUInt64 63)).toInt64 = lN (n / 2 ^ k) := by
  rw [wb_cu k hk]
  apply wb_inj
  apply BitVec.eq_of_toNat_eq
  show ((lN n).toUInt64 >>> UInt64.ofNat k).toNat = (BitVec.ofNat 64 _).toNat
  have h1 : (UInt64.ofNat k).toNat = k := by
    show (BitVec.ofNat 64 k).toNat = k
    rw [BitVec.toNat_ofNat, Nat.mod_eq_of_lt (by omega)]
  have h2 : (lN n).toUInt64.toNat = n := wb_tn hn
  rw [UInt64.toNat_shiftRight, h1, h2, Nat.mod_eq_of_lt hk, Nat.shiftRight_eq_div_pow, BitVec.toNat_ofNat, Nat.mod_eq_of_lt (Nat.lt_of_le_of_lt (Nat.div_le_self _ _) hn)]
theorem wb_and {a b : Nat} (ha : a < 2 ^ 64) (hb : b < 2 ^ 64) : lN a &&& lN b = lN (a &&& b) := by
  apply wb_inj
  rw [Int64.toBitVec_and, wb_tb, wb_tb, wb_tb]
  apply BitVec.eq_of_toNat_eq
  rw [BitVec.toNat_and, BitVec.toNat_ofNat, BitVec.toNat_ofNat, BitVec.toNat_ofNat, Nat.mod_eq_of_lt ha, Nat.mod_eq_of_lt hb, Nat.mod_eq_of_lt (Nat.and_lt_two_pow _ hb)]
theorem wb_mask {n k : Nat} (hn : n < 2 ^ 64) (hk : k < 64) : lN n &&& lN (2 ^ k - 1) = lN (n % 2 ^ k) := by
  rw [wb_and hn (by have := wb_lt2 hk; omega), Nat.and_two_pow_sub_one_eq_mod]
theorem wb_a1 {n : Nat} (hn : n < 2 ^ 64) : lN n &&& 1 = lN (n % 2) := wb_mask (k := 1) hn (by decide)
theorem wb_bit {n k : Nat} (hn : n < 2 ^ 64) (hk : k < 64) : ((lN n).toUInt64 >>> ((nI k).toInt64.toUInt64 &&& Int64.toUInt64 63)).toInt64 &&& 1 = lN (n / 2 ^ k % 2) := by
  rw [wb_shr hn hk, wb_a1 (Nat.lt_of_le_of_lt (Nat.div_le_self _ _) hn)]
theorem cr_amt (s : Int64) : ∃ n, n < 64 ∧ s &&& 63 = lN n ∧ (s.toUInt64 &&& Int64.toUInt64 63).toNat % 64 = n := by
  have e : (s.toUInt64 &&& Int64.toUInt64 63).toNat = s.toUInt64.toNat % 2 ^ 6 := by
    rw [UInt64.toNat_and, show (Int64.toUInt64 63).toNat = 2 ^ 6 - 1 from by decide, Nat.and_two_pow_sub_one_eq_mod]
  refine ⟨s.toUInt64.toNat % 2 ^ 6, by omega, ?_, by omega⟩
  rw [← Int64.toBitVec_inj, ← BitVec.toNat_inj]
  show (s.toUInt64 &&& Int64.toUInt64 63).toNat = (BitVec.ofNat 64 (s.toUInt64.toNat % 2 ^ 6)).toNat
  rw [e, BitVec.toNat_ofNat]
  omega
/-- place i of a long -/
def gc_b (x : Int64) (i : Nat) : Bool := x.toBitVec.getLsbD i
/-- how many of its first i places are 1 -/
def gc_n (x : Int64) : Nat → Nat
  | 0 => 0
  | i + 1 => gc_n x i + (if gc_b x i = true then 1 else 0)
theorem gc_bit (x : Int64) {k : Nat} (hk : k < 64) : ((x.toUInt64 >>> ((nI k).toInt64.toUInt64 &&& Int64.toUInt64 63)).toInt64 &&& 1).toInt32 = nI (if gc_b x k = true then 1 else 0) := by
  obtain ⟨n, hn, rfl⟩ := wb_of x
  rw [wb_bit hn hk, lN_i]
  have h : gc_b (lN n) k = decide (n / 2 ^ k % 2 = 1) := by
    unfold gc_b
    rw [wb_tb, BitVec.getLsbD_ofNat, Nat.testBit_eq_decide_div_mod_eq]
    simp [hk]
  rw [h]
  rcases Nat.mod_two_eq_zero_or_one (n / 2 ^ k) with h2 | h2
  · rw [h2]; rfl
  · rw [h2]; rfl
theorem gc_not (x : Int64) {k : Nat} (hk : k < 64) : gc_b (x ^^^ (-1)) k = !gc_b x k := by
  unfold gc_b
  rw [Int64.toBitVec_xor, show (-1 : Int64).toBitVec = BitVec.allOnes 64 from by decide, BitVec.getLsbD_xor, BitVec.getLsbD_allOnes]
  simp [hk]
theorem gc_n_le (x : Int64) (i : Nat) : gc_n x i ≤ i := by
  induction i with
  | zero => exact Nat.le_refl 0
  | succ i ih =>
    show gc_n x i + (if gc_b x i = true then 1 else 0) ≤ i + 1
    split <;> omega
theorem gc_n_not (x : Int64) (i : Nat) (hi : i ≤ 64) : gc_n (x ^^^ (-1)) i + gc_n x i = i := by
  induction i with
  | zero => rfl
  | succ i ih =>
    have h := ih (by omega)
    show gc_n (x ^^^ (-1)) i + (if gc_b (x ^^^ (-1)) i = true then 1 else 0) + (gc_n x i + (if gc_b x i = true then 1 else 0)) = i + 1
    rw [gc_not x (show i < 64 by omega)]
    cases gc_b x i
    · show gc_n (x ^^^ (-1)) i + 1 + (gc_n x i + 0) = i + 1
      omega
    · show gc_n (x ^^^ (-1)) i + 0 + (gc_n x i + 1) = i + 1
      omega
theorem gc_b_0 (i : Nat) : gc_b 0 i = false := by
  unfold gc_b
  rw [show (0 : Int64).toBitVec = 0#64 from rfl, BitVec.getLsbD_zero]
theorem gc_n_0 (i : Nat) : gc_n 0 i = 0 := by
  induction i with
  | zero => rfl
  | succ i ih =>
    show gc_n 0 i + (if gc_b 0 i = true then 1 else 0) = 0
    rw [ih, gc_b_0]
    rfl
theorem gc_n_full (x : Int64) (i : Nat) (h : ∀ j, j < i → gc_b x j = true) : gc_n x i = i := by
  induction i with
  | zero => rfl
  | succ i ih =>
    show gc_n x i + (if gc_b x i = true then 1 else 0) = i + 1
    rw [ih (fun j hj => h j (by omega)), h i (by omega)]
    rfl
theorem gc_b_or (x y : Int64) (i : Nat) : gc_b (x ||| y) i = (gc_b x i || gc_b y i) := by
  unfold gc_b
  rw [Int64.toBitVec_or, BitVec.getLsbD_or]
theorem gc_one : ∀ k, k < 64 → ((1 : Int64) <<< ((nI k).toInt64 &&& 63)).toBitVec.getLsbD k = true := by decide +kernel
theorem gc_b_one {k : Nat} (hk : k < 64) : gc_b ((1 : Int64) <<< ((nI k).toInt64 &&& 63)) k = true := gc_one k hk
theorem gc_pw : ∀ n, n < 64 → ((1 : Int64) <<< lN n) &&& (((1 : Int64) <<< lN n) - 1) = 0 := by decide +kernel
theorem gc_pow (e : Int64) : ((1 : Int64) <<< (e &&& 63)) &&& (((1 : Int64) <<< (e &&& 63)) - 1) = 0 := by
  obtain ⟨n, hn, h, _⟩ := cr_amt e
  rw [h]
  exact gc_pw n hn
theorem gc_56 : ∀ k, k < 64 → nI k &&& 56 = 8 * (nI k >>> ((3 : Int32) &&& 31)) := by decide +kernel
/-- the 64 rows below hold w: one more is put -/
theorem gc_fill {f s : Nat → Int64} {i k : Nat} {x : Int64} (hk : k = i) (h : ∀ j, j < i → s j = f j) (hx : x = f i) : ∀ j, j < i + 1 → vp_updL s k x j = f j := by
  intro j hj
  rw [hk]
  by_cases e : j = i
  · rw [e, pk_uLs, hx]
  · rw [pk_uLn e]
    exact h j (by omega)
end
section
theorem gc_ones {post : Int32 → Prop} {u : St0} (x : Int64) (H : post (nI (gc_n x 64))) : wpX_ones post u x :=
  pk_loop (σ := Unit) (fun n i _ => wX_ones_4 post x n (nI (gc_n x i)) (nI i)) (fun _ _ => True) 64 0 () (by omega) trivial
    (fun n _ _ => pk_le 64 64 (fun _ => H) (fun z => absurd z (by omega)))
    (fun n i _ hi _ hw => pk_le 64 i (fun z => absurd z (by omega)) (fun _ => nm_r (by rw [gc_bit x hi, nI_add]; rfl) (nm_r (nI_1 i) (hw () trivial))))
/-- what a form answers in a state -/
def gc_v (form st : Int32) : Int32 := ((((form >>> ((6 : Int32) &&& 31)) * (st >>> ((3 : Int32) &&& 31))) + (((form >>> ((3 : Int32) &&& 31)) &&& 7) * (st &&& 7))) + (form &&& 7)) &&& 7
theorem gc_v_in (form st : Int32) : ∃ j : Nat, j < 8 ∧ gc_v form st = nI j := pk_andE _ 3 (by decide)
theorem gc_fv {post : Int32 → Prop} {u : St0} {form st : Int32} (H : post (gc_v form st)) : wpX_formValue post u form st := nm_e (nm_e (nm_e H))
/-- where an assignment leads from a state -/
def gc_to (w form st : Int32) : Int32 := if w = 0 then (8 * gc_v form st) + (st &&& 7) else (st &&& 56) + gc_v form st
/-- its row -/
def gc_row (w form st : Int32) : Int64 := (1 : Int64) <<< ((gc_to w form st).toInt64 &&& 63)
theorem gc_row_t {w form st : Int32} (h : w = 0) : gc_row w form st = (1 : Int64) <<< (((8 * gc_v form st) + (st &&& 7)).toInt64 &&& 63) := by
  unfold gc_row gc_to
  rw [if_pos h]
theorem gc_row_f {w form st : Int32} (h : ¬ w = 0) : gc_row w form st = (1 : Int64) <<< (((st &&& 56) + gc_v form st).toInt64 &&& 63) := by
  unfold gc_row gc_to
  rw [if_neg h]
theorem gc_ix (x : Int32) : ((64 : Int32) * 0) + x = x := by
  rw [show (64 : Int32) * 0 = 0 from by decide, Int32.zero_add]
theorem gc_a64 {post : Int32 → St2 → Prop} {J : Int32 → (Nat → Int64) → (Nat → Int64) → (Nat → Int64) → Prop} {w form z : Int32} {i : Nat} {a1 a2 a3 : Nat → Int64} (hi : i < 64)
    (H : J (nI (i + 1)) (vp_updL a1 i ((1 : Int64) <<< (z.toInt64 &&& 63))) a2 a3) : wX_assign_64 post J w form (nI i) z 0 a1 a2 a3 := by
  unfold wX_assign_64
  rw [gc_ix, nI_clamp (show i < 2 ^ 31 by omega)]
  exact ⟨pk_in i 1920 (by omega), nm_e (nm_r (nI_1 i) H)⟩
theorem gc_assign {post : Int32 → St2 → Prop} {a1 a2 a3 : Nat → Int64} (w form : Int32) (h0 : ¬ form < 0) (h1 : form ≤ 511)
    (H : ∀ b, (∀ j, j < 64 → b j = gc_row w form (nI j)) → post 0 (1, b, vp_updL a2 0 (-1), a3)) : wpX_assign post (0, a1, a2, a3) w form := by
  refine br_f h0 (br_t h1 (br_f (by decide) ?_))
  refine pk_loop (fun n i s => wX_assign_27 post w form 0 n (nI i) s a2 a3) (fun i s => ∀ j, j < i → s j = gc_row w form (nI j)) 64 0 a1 (by omega) lt_0 ?_ ?_
  · intro n s h
    refine pk_le 64 64 (fun _ => ⟨pk_in 0 30 (by decide), nm_r (show vp_updL a2 (0 : Int32).toNatClampNeg (-1) = vp_updL a2 0 (-1) from by rw [sb_cl0]) ?_⟩) (fun z => absurd z (by omega))
    exact nm_r (show (0 : Int32) + 1 = 1 from by decide) (H s h)
  · intro n i s hi h hw
    refine pk_le 64 i (fun z => absurd z (by omega)) (fun _ => gc_fv ?_)
    exact br_c (fun e => gc_a64 hi (hw _ (gc_fill rfl h (gc_row_t e).symm))) (fun e => gc_a64 hi (hw _ (gc_fill rfl h (gc_row_f e).symm)))
theorem gc_good0 {post : Int32 → Prop} {a1 a2 a3 : Nat → Int64} (H : post 0) : wpX_isGood post (0, a1, a2, a3) 0 := br_f (by decide) (br_t (by decide) H)
theorem gc_good1 {post : Int32 → Prop} {a1 a2 a3 : Nat → Int64} (H : post 1) : wpX_isGood post (1, a1, a2, a3) 0 := br_f (by decide) (br_f (by decide) H)
/-- ends: no program -/
theorem gc_ends0 {post : Int64 → Prop} {a1 a2 a3 : Nat → Int64} (st : Int32) (H : post 0) : wpX_ends post (0, a1, a2, a3) 0 st := by
  unfold wpX_ends
  exact gc_good0 (br_t rfl (br_t rfl H))
/-- ends: no state -/
theorem gc_endsO {post : Int64 → Prop} {a1 a2 a3 : Nat → Int64} (st : Int32) (h : st < 0 ∨ 64 ≤ st) (H : post 0) : wpX_ends post (1, a1, a2, a3) 0 st := by
  unfold wpX_ends
  refine gc_good1 (br_f (by decide) (br_c (fun _ => br_t rfl H) (fun g => br_t ?_ (br_t rfl H))))
  rcases h with h | h
  · exact absurd h g
  · exact h
/-- ends: a program, a state -/
theorem gc_ends1 {post : Int64 → Prop} {a1 a2 a3 : Nat → Int64} {k : Nat} (hk : k < 64) (H : post (a1 k)) : wpX_ends post (1, a1, a2, a3) 0 (nI k) := by
  unfold wpX_ends
  refine gc_good1 (br_f (by decide) (br_f (nI_pos (by omega)) (pk_le 64 k (fun z => absurd z (by omega)) (fun _ => ?_))))
  unfold wX_ends_23
  rw [gc_ix, nI_clamp (show k < 2 ^ 31 by omega)]
  exact br_f (by decide) ⟨pk_in k 1920 (by omega), H⟩
theorem gc_sure0 {post : Int64 → Prop} {a1 a2 a3 : Nat → Int64} (H : post 0) : wpX_sure post (0, a1, a2, a3) 0 := by
  unfold wpX_sure
  exact gc_good0 (br_t rfl H)
theorem gc_sure1 {post : Int64 → Prop} {a1 a2 a3 : Nat → Int64} (H : post (a2 0)) : wpX_sure post (1, a1, a2, a3) 0 := by
  unfold wpX_sure
  refine gc_good1 (br_f (by decide) ⟨pk_in 0 30 (by decide), ?_⟩)
  rw [sb_cl0]
  exact H
theorem gc_has {post : Int32 → Prop} {u : St0} {x : Int64} {i : Int32} (H : ∀ r, post r) : wpX_has post u x i := br_c (fun _ => H 1) (fun _ => H 0)
theorem gc_set0 {post : Int32 → Prop} {a1 a2 a3 : Nat → Int64} (H : post (-1)) : wpX_settled post (0, a1, a2, a3) 0 := by
  unfold wpX_settled
  exact gc_good0 (br_t rfl H)
theorem gc_set1 {post : Int32 → Prop} {a1 a2 a3 : Nat → Int64} (h : ∀ j, j < 64 → a1 j &&& (a1 j - 1) = 0) (H : post 1) : wpX_settled post (1, a1, a2, a3) 0 := by
  unfold wpX_settled
  refine gc_good1 (br_f (by decide) ?_)
  refine pk_loop (σ := Unit) (fun n i _ => wX_settled_12 post 0 1 a1 a2 a3 n (nI i)) (fun _ _ => True) 64 0 () (by omega) trivial (fun n _ _ => pk_le 64 64 (fun _ => H) (fun z => absurd z (by omega))) ?_
  intro n i _ hi _ hw
  have hx : ((64 : Int32) * 0 + nI i) = nI i := gc_ix _
  refine pk_le 64 i (fun z => absurd z (by omega)) (fun _ => ⟨pk_in i 1920 (by omega) hx, nm_r (e' := a1 i) (by rw [hx, nI_clamp (show i < 2 ^ 31 by omega)]) ⟨pk_in 0 30 (by decide), gc_has (fun r => ?_)⟩⟩)
  exact br_c (fun _ => nm_r (nI_1 i) (hw () trivial)) (fun _ => br_t (h i hi) (nm_r (nI_1 i) (hw () trivial)))
/-- which guard -/
def gc_k (w : Int32) : Nat := if w = 0 then 0 else 1
theorem gc_c77 {post : Int32 → St2 → Prop} {c z : Int32} {a1 a2 a3 : Nat → Int64} (x : Int64) (k : Nat) (hk : k < 2) (hz : z = nI k) (H : post (nI (gc_n x 64)) (c, a1, a2, vp_updL a3 k x)) : wX_compare_77 post x z c a1 a2 a3 := by
  subst hz
  unfold wX_compare_77
  rw [nI_clamp (show k < 2 ^ 31 by omega)]
  exact ⟨pk_in k 2 hk, nm_e (gc_ones x H)⟩
theorem gc_cmp {post : Int32 → St2 → Prop} {c : Int32} {a1 a2 a3 : Nat → Int64} (w form bd : Int32) (h0 : ¬ form < 0) (h1 : form ≤ 511) (h2 : ¬ bd < 0) (h3 : bd ≤ 8)
    (H : ∀ x : Int64, (bd = 0 → x = 0) → (bd = 8 → ∀ j, j < 64 → gc_b x j = true) → post (nI (gc_n x 64)) (c, a1, a2, vp_updL a3 (gc_k w) x)) : wpX_compare post (c, a1, a2, a3) w form bd := by
  refine br_f h0 (br_t h1 (br_f h2 (br_t h3 ?_)))
  refine pk_loop (fun n i s => wX_compare_32 post w form bd c a1 a2 a3 n s (nI i)) (fun i s => (bd = 0 → s = 0) ∧ (bd = 8 → ∀ j, j < i → gc_b s j = true)) 64 0 0 (by omega) ⟨fun _ => rfl, fun _ => lt_0⟩ ?_ ?_
  · intro n s h
    have H' := H s h.1 h.2
    unfold gc_k at H'
    refine pk_le 64 64 (fun _ => br_c (fun e => ?_) (fun e => ?_)) (fun z => absurd z (by omega))
    · rw [if_pos e] at H'
      exact gc_c77 s 0 (by decide) rfl H'
    · rw [if_neg e] at H'
      exact gc_c77 s 1 (by decide) rfl H'
  · intro n i s hi h hw
    obtain ⟨v, hv, ev⟩ := gc_v_in form (nI i)
    refine pk_le 64 i (fun z => absurd z (by omega)) (fun _ => gc_fv ?_)
    refine br_c (fun g => nm_r (nI_1 i) (hw s ⟨h.1, fun e => ?_⟩)) (fun g => nm_e (nm_r (nI_1 i) (hw _ ⟨fun e => ?_, fun e => ?_⟩)))
    · rw [e, ev] at g
      exact absurd g (nI_ge (b := 8) hv (by decide))
    · rw [e, ev] at g
      exact absurd (nI_pos' (show v < 2 ^ 31 by omega)) g
    · refine lt_s (fun j hj => ?_) ?_
      · rw [gc_b_or, h.2 e j hj, Bool.true_or]
      · rw [gc_b_or, gc_b_one hi, Bool.or_true]
theorem gc_o9 {post : Int32 → St2 → Prop} {c z : Int32} {a1 a2 a3 : Nat → Int64} (k : Nat) (hk : k < 2) (hz : z = nI k) (H : post (nI (gc_n (a3 k ^^^ (-1)) 64)) (c, a1, a2, vp_updL a3 k (a3 k ^^^ (-1)))) : wX_oppose_9 post z c a1 a2 a3 := by
  subst hz
  unfold wX_oppose_9
  rw [nI_clamp (show k < 2 ^ 31 by omega)]
  refine ⟨pk_in k 2 hk, pk_in k 2 hk, nm_e ⟨pk_in k 2 hk, ?_⟩⟩
  rw [pk_uLs]
  exact gc_ones _ H
theorem gc_opp {post : Int32 → St2 → Prop} {c : Int32} {a1 a2 a3 : Nat → Int64} (w : Int32) (H : post (nI (gc_n (a3 (gc_k w) ^^^ (-1)) 64)) (c, a1, a2, vp_updL a3 (gc_k w) (a3 (gc_k w) ^^^ (-1)))) : wpX_oppose post (c, a1, a2, a3) w := by
  unfold gc_k at H
  refine br_c (fun e => ?_) (fun e => ?_)
  · rw [if_pos e] at H
    exact gc_o9 0 (by decide) rfl H
  · rw [if_neg e] at H
    exact gc_o9 1 (by decide) rfl H
end
section
/-- oppose of a guard that was never written: 64 -/
theorem gc_l254 {post : Int32 → St0 → Prop} {mc ms kc ks : Nat} {x4 z c : Int32} {a1 a2 : Nat → Int64} (H : post 1 ()) : wL_lawOf_254 post mc ms x4 z z kc ks c a1 a2 (fun _ => 0) := by
  have h := gc_n_not 0 64 (by decide)
  rw [gc_n_0] at h
  refine br_t rfl (gc_opp x4 (br_t ?_ H))
  show nI (gc_n ((0 : Int64) ^^^ (-1)) 64) = 64
  rw [show gc_n ((0 : Int64) ^^^ (-1)) 64 = 64 from h]
  rfl
/-- oppose twice -/
theorem gc_l311 {post : Int32 → St0 → Prop} {mc ms kc ks : Nat} {x4 c : Int32} {a1 a2 a3 : Nat → Int64} (x : Int64) (H : post 1 ()) : wL_lawOf_311 post mc ms x4 (nI (gc_n x 64)) kc ks c a1 a2 (vp_updL a3 (gc_k x4) x) := by
  have h1 := gc_n_not x 64 (by decide)
  have h2 := gc_n_not (x ^^^ (-1)) 64 (by decide)
  refine gc_opp x4 (br_t ?_ (gc_opp x4 (br_t ?_ H)))
  · rw [pk_uLs, show (64 : Int32) = nI 64 from rfl, pk_sub (gc_n_le x 64), show gc_n (x ^^^ (-1)) 64 = 64 - gc_n x 64 by omega]
  · rw [pk_uLs, pk_uLs, show gc_n (x ^^^ (-1) ^^^ (-1)) 64 = gc_n x 64 by omega]
theorem gc_l296 {post : Int32 → St0 → Prop} {mc ms kc ks : Nat} {bd x4 c : Int32} {a1 a2 a3 : Nat → Int64} (x : Int64) (h8 : bd = 8 → ∀ j, j < 64 → gc_b x j = true) (H : post 1 ()) : wL_lawOf_296 post mc ms bd x4 (nI (gc_n x 64)) kc ks c a1 a2 (vp_updL a3 (gc_k x4) x) :=
  br_c (fun e => br_t (by rw [gc_n_full x 64 (h8 e)]; rfl) (gc_l311 x H)) (fun _ => gc_l311 x H)
/-- the last check, a bad form -/
theorem gc_l218b {post : Int32 → St0 → Prop} {mc ms kc ks : Nat} {form bd x4 z c : Int32} {a1 a2 : Nat → Int64} (h : form < 0 ∨ 511 < form) (H : post 1 ()) : wL_lawOf_218 post mc ms form bd x4 0 z kc ks c a1 a2 (fun _ => 0) := by
  have g : (¬ form < 0) → ¬ form ≤ 511 := fun z => by
    rcases h with h | h
    · exact absurd h z
    · exact Int32.not_le.mpr h
  exact br_c (fun _ => br_t rfl (br_t rfl (gc_l254 H))) (fun n => br_f (g n) (br_t rfl (br_t rfl (gc_l254 H))))
/-- the last check, a good form and a bad bound -/
theorem gc_l218o {post : Int32 → St0 → Prop} {mc ms kc ks : Nat} {form bd x4 c : Int32} {a1 a2 : Nat → Int64} (h0 : ¬ form < 0) (h1 : form ≤ 511) (h : bd < 0 ∨ 8 < bd) (H : post 1 ()) : wL_lawOf_218 post mc ms form bd x4 1 0 kc ks c a1 a2 (fun _ => 0) := by
  have g : (¬ bd < 0) → ¬ bd ≤ 8 := fun z => by
    rcases h with h | h
    · exact absurd h z
    · exact Int32.not_le.mpr h
  exact br_f h0 (br_t h1 (br_c (fun _ => br_f (by decide) (br_t rfl (br_f (by decide) (gc_l254 H)))) (fun n => br_f (g n) (br_f (by decide) (br_t rfl (br_f (by decide) (gc_l254 H)))))))
/-- the last check, both good -/
theorem gc_l218g {post : Int32 → St0 → Prop} {mc ms kc ks : Nat} {form bd x4 c : Int32} {a1 a2 a3 : Nat → Int64} (h0 : ¬ form < 0) (h1 : form ≤ 511) (h2 : ¬ bd < 0) (h3 : bd ≤ 8) (H : post 1 ()) : wL_lawOf_218 post mc ms form bd x4 1 1 kc ks c a1 a2 a3 := by
  unfold wL_lawOf_218
  refine gc_cmp x4 form bd h0 h1 h2 h3 (fun x hx hy => ?_)
  have hle := gc_n_le x 64
  refine br_f (by decide) (br_f (by decide) (br_f (nI_pos (by omega)) (br_f (nI_nlt (a := 64) hle (by decide)) (br_c (fun e => br_t ?_ (gc_l296 x hy H)) (fun _ => gc_l296 x hy H)))))
  rw [hx e, gc_n_0]
  rfl
theorem gc_nlt {x y : Int32} (h : ¬ y < x) : x ≤ y := Int32.not_lt.mp h
/-- the checks behind ends, a bad form -/
theorem gc_l154b {post : Int32 → St0 → Prop} {mc ms kc ks : Nat} {form bd x4 : Int32} {a1 a2 : Nat → Int64} (h : form < 0 ∨ 511 < form) (H : post 1 ()) : wL_lawOf_154 post mc ms form bd x4 0 0 0 kc ks 0 a1 a2 (fun _ => 0) :=
  br_t rfl (gc_sure0 (br_t rfl (br_t rfl (gc_set0 (br_t rfl (br_t rfl (br_c (fun _ => gc_l218b h H) (fun _ => br_c (fun _ => gc_l218b h H) (fun _ => gc_l218b h H)))))))))
/-- the checks behind ends, a good form -/
theorem gc_l154g {post : Int32 → St0 → Prop} {mc ms kc ks : Nat} {form bd x4 : Int32} {y : Int64} {a1 a2 : Nat → Int64} (h0 : ¬ form < 0) (h1 : form ≤ 511) (hs : a2 0 = -1) (hr : ∀ j, j < 64 → a1 j &&& (a1 j - 1) = 0) (H : post 1 ()) : wL_lawOf_154 post mc ms form bd x4 1 y y kc ks 1 a1 a2 (fun _ => 0) := by
  refine br_t rfl (gc_sure1 (br_f (by decide) (br_t hs (gc_set1 hr (br_f (by decide) (br_t rfl ?_))))))
  exact br_c (fun g => gc_l218o h0 h1 (Or.inl g) H) (fun n => br_c (fun g => gc_l218o h0 h1 (Or.inr g) H) (fun m => gc_l218g h0 h1 n (gc_nlt m) H))
/-- ends, a bad form -/
theorem gc_l127b {post : Int32 → St0 → Prop} {mc ms kc ks : Nat} {form st bd x4 x7 z : Int32} {a1 a2 : Nat → Int64} (h : form < 0 ∨ 511 < form) (H : post 1 ()) : wL_lawOf_127 post mc ms form st bd x4 0 x7 z kc ks 0 a1 a2 (fun _ => 0) := by
  unfold wL_lawOf_127
  exact gc_ends0 st (br_t rfl (gc_l154b h H))
theorem gc_l64b {post : Int32 → St0 → Prop} {mc ms kc ks : Nat} {w form st bd x4 z : Int32} {a1 a2 : Nat → Int64} (h : form < 0 ∨ 511 < form) (H : post 1 ()) : wL_lawOf_64 post mc ms w form st bd x4 0 z kc ks 0 a1 a2 (fun _ => 0) :=
  nm_e (nm_e (nm_e (br_c (fun _ => gc_l127b h H) (fun _ => gc_l127b h H))))
theorem gc_l44b {post : Int32 → St0 → Prop} {mc ms kc ks : Nat} {w form st bd x4 : Int32} {a1 a2 : Nat → Int64} (h : form < 0 ∨ 511 < form) (H : post 1 ()) : wL_lawOf_44 post mc ms w form st bd x4 0 (-1) (-1) kc ks 0 a1 a2 (fun _ => 0) :=
  br_t rfl (br_c (fun _ => gc_l64b h H) (fun _ => br_c (fun _ => gc_l64b h H) (fun _ => gc_l64b h H)))
theorem gc_l25b {post : Int32 → St0 → Prop} {mc ms kc ks : Nat} {w form st bd x4 : Int32} {a1 a2 : Nat → Int64} (h : form < 0 ∨ 511 < form) (H : post 1 ()) : wL_lawOf_25 post mc ms w form st bd x4 0 kc ks 0 a1 a2 (fun _ => 0) := by
  have g : (¬ form < 0) → ¬ form ≤ 511 := fun z => by
    rcases h with h | h
    · exact absurd h z
    · exact Int32.not_le.mpr h
  exact br_c (fun _ => br_t rfl (gc_l44b h H)) (fun n => br_f (g n) (br_t rfl (gc_l44b h H)))
/-- ends, a good form and a bad state -/
theorem gc_l64o {post : Int32 → St0 → Prop} {mc ms kc ks : Nat} {w form st bd x4 : Int32} {a1 a2 : Nat → Int64} (h0 : ¬ form < 0) (h1 : form ≤ 511) (hs : a2 0 = -1) (hr : ∀ j, j < 64 → a1 j &&& (a1 j - 1) = 0) (h : st < 0 ∨ 64 ≤ st) (H : post 1 ()) : wL_lawOf_64 post mc ms w form st bd x4 1 0 kc ks 1 a1 a2 (fun _ => 0) := by
  have g : ∀ z, wL_lawOf_127 post mc ms form st bd x4 1 0 z kc ks 1 a1 a2 (fun _ => 0) := fun z => by
    unfold wL_lawOf_127
    exact gc_endsO st h (br_f (by decide) (br_t rfl (gc_l154g h0 h1 hs hr H)))
  exact nm_e (nm_e (nm_e (br_c (fun _ => g _) (fun _ => g _))))
/-- ends, both good -/
theorem gc_l64g {post : Int32 → St0 → Prop} {mc ms kc ks : Nat} {w form bd x4 : Int32} {a1 a2 : Nat → Int64} (h0 : ¬ form < 0) (h1 : form ≤ 511) (hs : a2 0 = -1) (hr : ∀ j, j < 64 → a1 j &&& (a1 j - 1) = 0) {k : Nat} (hk : k < 64) (hx : a1 k = gc_row w form (nI k)) (H : post 1 ()) : wL_lawOf_64 post mc ms w form (nI k) bd x4 1 1 kc ks 1 a1 a2 (fun _ => 0) := by
  have g : ∀ z : Int32, a1 k = (1 : Int64) <<< (z.toInt64 &&& 63) → wL_lawOf_127 post mc ms form (nI k) bd x4 1 1 z kc ks 1 a1 a2 (fun _ => 0) := fun z hz => by
    unfold wL_lawOf_127
    refine gc_ends1 hk (br_f (by decide) (br_f (by decide) ?_))
    rw [hz]
    exact gc_l154g h0 h1 hs hr H
  refine nm_e (nm_e (nm_e (br_c (fun e => g _ ?_) (fun e => g _ ?_))))
  · rw [hx, gc_row_t e]
    rfl
  · rw [hx, gc_row_f e, gc_56 k hk]
    rfl
theorem gc_l25g {post : Int32 → St0 → Prop} {mc ms kc ks : Nat} {w form st bd x4 : Int32} {a1 a2 : Nat → Int64} (h0 : ¬ form < 0) (h1 : form ≤ 511) (H : post 1 ()) : wL_lawOf_25 post mc ms w form st bd x4 1 kc ks 0 a1 a2 (fun _ => 0) := by
  unfold wL_lawOf_25
  refine gc_assign w form h0 h1 (fun b hb => br_f (by decide) (br_t rfl ?_))
  have hr : ∀ j, j < 64 → b j &&& (b j - 1) = 0 := fun j hj => by
    rw [hb j hj]
    exact gc_pow _
  refine br_c (fun g => gc_l64o h0 h1 pk_uLs hr (Or.inl g) H) (fun n => br_c (fun g => gc_l64o h0 h1 pk_uLs hr (Or.inr ?_) H) (fun m => ?_))
  · rw [Int32.lt_iff_toInt_lt] at g
    rw [Int32.le_iff_toInt_le]
    have e1 : (63 : Int32).toInt = 63 := by decide
    have e2 : (64 : Int32).toInt = 64 := by decide
    omega
  · obtain ⟨k, hk, rfl⟩ := nI_of2 (M := 63) (n := 63) (by decide) n (gc_nlt m)
    exact gc_l64g h0 h1 pk_uLs hr (show k < 64 by omega) (hb k (by omega)) H
theorem gc_lawOf {post : Int32 → St0 → Prop} (w form st bd x4 : Int32) (H : post 1 ()) : wpL_lawOf post 1962 31392 () w form st bd x4 := by
  refine ⟨by decide, by decide, 3, 1952, by decide, by decide, by decide, by decide, by decide, by decide, by decide, by decide, ?_⟩
  exact br_c (fun g => gc_l25b (Or.inl g) H) (fun n => br_c (fun g => gc_l25b (Or.inr g) H) (fun m => gc_l25g n (gc_nlt m) H))
theorem gc_cell {post : Int32 → Prop} {L : Nat} {xs : Nat → Int32} {u : St0} {x : Int32} (k : Nat) (hk : k < 5) (hx : x = nI k) (hL : L ≤ 5) (H : ∀ r, post r) : wpL_cellAt post L xs u x := by
  subst hx
  exact pk_le L k (fun _ => H _) (fun z => ⟨vp_in_nI z (by omega), H _⟩)
theorem i_vc (xs : Nat → Int32) (L : Nat) (hL : L ≤ 5) : wpL_law (fun r => r = 1) L xs :=
  gc_cell 0 (by decide) rfl hL (fun a => gc_cell 1 (by decide) rfl hL (fun b => gc_cell 2 (by decide) rfl hL (fun c => gc_cell 3 (by decide) rfl hL (fun d => gc_cell 4 (by decide) rfl hL (fun e => ⟨1962, 31392, by decide, by decide, gc_lawOf a b c d e rfl⟩)))))
end
