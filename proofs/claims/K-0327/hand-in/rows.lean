section
/-! a long by its bits -/
def qm_b (x : Int64) (i : Nat) : Bool := x.toBitVec.getLsbD i
theorem qm_ext {x y : Int64} (h : ∀ i, i < 64 → qm_b x i = qm_b y i) : x = y := Int64.toBitVec_inj.mp (BitVec.eq_of_getLsbD_eq (fun i hi => h i hi))
theorem qm_or (x y : Int64) (i : Nat) : qm_b (x ||| y) i = (qm_b x i || qm_b y i) := by unfold qm_b; rw [Int64.toBitVec_or, BitVec.getLsbD_or]
theorem qm_xor (x y : Int64) (i : Nat) : qm_b (x ^^^ y) i = (qm_b x i ^^ qm_b y i) := by unfold qm_b; rw [Int64.toBitVec_xor, BitVec.getLsbD_xor]
theorem qm_0 (i : Nat) : qm_b 0 i = false := BitVec.getLsbD_zero
theorem qm_m1 : ∀ i, i < 64 → qm_b (-1) i = true := by decide +kernel
theorem qm_1 : ∀ i, i < 64 → qm_b 1 i = decide (i = 0) := by decide +kernel
theorem qm_cnt : ∀ n, n < 64 → (((nI n).toInt64 &&& 63).toBitVec.smod 64).toNat = n := by decide +kernel
theorem qm_ucnt : ∀ n, n < 64 → ((nI n).toInt64.toUInt64 &&& Int64.toUInt64 63).toNat = n := by decide +kernel
theorem qm_shl (n : Nat) (hn : n < 64) (x : Int64) {i : Nat} (hi : i < 64) : qm_b (x <<< ((nI n).toInt64 &&& 63)) i = (decide (n ≤ i) && qm_b x (i - n)) := by
  unfold qm_b
  rw [Int64.toBitVec_shiftLeft]
  show (x.toBitVec <<< (((nI n).toInt64 &&& 63).toBitVec.smod 64).toNat).getLsbD i = _
  rw [qm_cnt n hn, BitVec.getLsbD_shiftLeft]
  rcases Nat.lt_or_ge i n with h | h
  · simp [h, Nat.not_le.mpr h]
  · simp [hi, h, Nat.not_lt.mpr h]
theorem qm_sshr (x : Int64) {i : Nat} (hi : i < 64) : qm_b (x >>> ((63 : Int32).toInt64 &&& 63)) i = qm_b x 63 := by
  have h : (((63 : Int32).toInt64 &&& 63).toBitVec.smod 64).toNat = 63 := by decide +kernel
  unfold qm_b
  rw [Int64.toBitVec_shiftRight]
  show (x.toBitVec.sshiftRight (((63 : Int32).toInt64 &&& 63).toBitVec.smod 64).toNat).getLsbD i = _
  rw [h, BitVec.getLsbD_sshiftRight, BitVec.msb_eq_getLsbD_last, decide_eq_false (Nat.not_le.mpr hi)]
  rcases Nat.eq_zero_or_pos i with z | z
  · subst z; simp
  · rw [if_neg (by omega)]; simp
theorem qm_bit (w : Int64) {j : Nat} (hj : j < 64) : ((w.toUInt64 >>> ((nI j).toInt64.toUInt64 &&& Int64.toUInt64 63)).toInt64 &&& 1) = 0 ↔ qm_b w j = false := by
  have e : (w.toUInt64 >>> ((nI j).toInt64.toUInt64 &&& Int64.toUInt64 63)).toInt64.toBitVec = w.toBitVec >>> j := by
    apply BitVec.eq_of_toNat_eq
    show (w.toUInt64 >>> ((nI j).toInt64.toUInt64 &&& Int64.toUInt64 63)).toNat = _
    rw [UInt64.toNat_shiftRight, qm_ucnt j hj, Nat.mod_eq_of_lt hj, BitVec.toNat_ushiftRight]
    rfl
  rw [← Int64.toBitVec_inj, Int64.toBitVec_and, e]
  show w.toBitVec >>> j &&& 1#64 = 0#64 ↔ w.toBitVec.getLsbD j = false
  constructor
  · intro h
    have t := congrArg (fun x => x.getLsbD 0) h
    simpa using t
  · intro h
    apply BitVec.eq_of_getLsbD_eq
    intro i hi
    cases i with
    | zero => simp [h]
    | succ i => simp
/-! the parity of the bits of q below i; the six doublings of X reckon it -/
def qm_P (q : Nat → Bool) : Nat → Bool
  | 0 => false
  | i + 1 => qm_P q i ^^ q i
def qm_W (x : Int64) (q : Nat → Bool) (s : Nat) : Prop := ∀ j, j < 64 → qm_b x j = (qm_P q (j + 1) ^^ qm_P q (j + 1 - s))
theorem qm_W1 (x : Int64) : qm_W x (qm_b x) 1 := by
  intro j _
  show qm_b x j = ((qm_P (qm_b x) j ^^ qm_b x j) ^^ qm_P (qm_b x) j)
  cases qm_b x j <;> cases qm_P (qm_b x) j <;> rfl
theorem qm_step {x : Int64} {q : Nat → Bool} (s : Nat) (hs : s < 64) (h : qm_W x q s) : qm_W (x ^^^ (x <<< ((nI s).toInt64 &&& 63))) q (2 * s) := by
  intro j hj
  rw [qm_xor, qm_shl s hs x hj, h j hj]
  rcases Nat.lt_or_ge j s with z | z
  · rw [decide_eq_false (Nat.not_le.mpr z), show j + 1 - s = 0 by omega, show j + 1 - 2 * s = 0 by omega, Bool.false_and, Bool.xor_false]
  · rw [decide_eq_true z, h (j - s) (by omega), show j - s + 1 = j + 1 - s by omega, show j + 1 - s - s = j + 1 - 2 * s by omega]
    cases qm_P q (j + 1) <;> cases qm_P q (j + 1 - s) <;> cases qm_P q (j + 1 - 2 * s) <;> rfl
theorem qm_W64 {x : Int64} {q : Nat → Bool} (h : qm_W x q 64) {j : Nat} (hj : j < 64) : qm_b x j = qm_P q (j + 1) := by
  rw [h j hj, show j + 1 - 64 = 0 by omega]
  exact Bool.xor_false _
/-! the carry and the flag of one Bool -/
def qm_c (b : Bool) : Int64 := match b with
  | true => -1
  | false => 0
def qm_i (b : Bool) : Int32 := match b with
  | true => 1
  | false => 0
theorem qm_cb (b : Bool) {i : Nat} (hi : i < 64) : qm_b (qm_c b) i = b := by
  cases b
  · exact qm_0 i
  · exact qm_m1 i hi
theorem qm_nar (b : Bool) : narrow .boolean (.int (qm_i b)) = .int (qm_i b) := by
  cases b
  · exact narrow_b0
  · exact narrow_b1
theorem qm_fit (b : Bool) : fits .boolean (.int (qm_i b)) = true := by
  rw [← qm_nar b]
  exact fits_narrow_boolean _
/-! X's block -/
theorem qm_X (post : Int64 → SX → Prop) (b : Bool) (n a0 : Int64)
    (h : ∀ r : Int64, (∀ j, j < 64 → qm_b r j = (qm_P (qm_b a0) (j + 1) ^^ b)) → post r (qm_c (qm_P (qm_b a0) 64 ^^ b), n + 1)) :
    wpX_block post (qm_c b, n) a0 := by
  intro x1 e1 x2 e2 x3 e3 x4 e4 x5 e5 x6 e6 x7 e7 c ec m em
  have w1 : qm_W x1 (qm_b a0) 2 := by rw [e1]; exact qm_step 1 (by omega) (qm_W1 a0)
  have w2 : qm_W x2 (qm_b a0) 4 := by rw [e2]; exact qm_step 2 (by omega) w1
  have w3 : qm_W x3 (qm_b a0) 8 := by rw [e3]; exact qm_step 4 (by omega) w2
  have w4 : qm_W x4 (qm_b a0) 16 := by rw [e4]; exact qm_step 8 (by omega) w3
  have w5 : qm_W x5 (qm_b a0) 32 := by rw [e5]; exact qm_step 16 (by omega) w4
  have w6 : qm_W x6 (qm_b a0) 64 := by rw [e6]; exact qm_step 32 (by omega) w5
  have w7 : ∀ j, j < 64 → qm_b x7 j = (qm_P (qm_b a0) (j + 1) ^^ b) := by
    intro j hj
    rw [e7, qm_xor, qm_W64 w6 hj, qm_cb b hj]
  have hc : c = qm_c (qm_P (qm_b a0) 64 ^^ b) := by
    apply qm_ext
    intro i hi
    rw [ec, qm_sshr x7 hi, w7 63 (by omega), qm_cb _ hi]
  rw [hc, em]
  exact h x7 w7
/-! Y's loop -/
def qm_O (x : Int64) (q : Nat → Bool) (b : Bool) (i : Nat) : Prop := ∀ j, j < 64 → qm_b x j = (decide (j < i) && (qm_P q (j + 1) ^^ b))
theorem qm_O0 (q : Nat → Bool) (b : Bool) : qm_O 0 q b 0 := by
  intro j _
  rw [qm_0, decide_eq_false (Nat.not_lt_zero j), Bool.false_and]
theorem qm_Of {x : Int64} {q : Nat → Bool} {b : Bool} {i : Nat} (h : qm_O x q b i) (z : (qm_P q (i + 1) ^^ b) = false) : qm_O x q b (i + 1) := by
  intro j hj
  rw [h j hj]
  rcases Nat.lt_trichotomy j i with y | y | y
  · rw [decide_eq_true y, decide_eq_true (show j < i + 1 by omega)]
  · subst y; rw [z, Bool.and_false, Bool.and_false]
  · rw [decide_eq_false (show ¬ j < i by omega), decide_eq_false (show ¬ j < i + 1 by omega)]
theorem qm_Ot {x : Int64} {q : Nat → Bool} {b : Bool} {i : Nat} (hi : i < 64) (h : qm_O x q b i) (z : (qm_P q (i + 1) ^^ b) = true) : qm_O (x ||| ((1 : Int64) <<< ((nI i).toInt64 &&& 63))) q b (i + 1) := by
  intro j hj
  rw [qm_or, h j hj, qm_shl i hi 1 hj]
  rcases Nat.lt_trichotomy j i with y | y | y
  · rw [decide_eq_true y, decide_eq_true (show j < i + 1 by omega), decide_eq_false (show ¬ i ≤ j by omega), Bool.false_and, Bool.or_false]
  · subst y
    rw [z, decide_eq_true (Nat.lt_succ_self j), decide_eq_true (Nat.le_refl j), Nat.sub_self, qm_1 0 (by omega)]
    simp
  · rw [decide_eq_false (show ¬ j < i by omega), decide_eq_false (show ¬ j < i + 1 by omega), qm_1 (j - i) (by omega), decide_eq_false (show ¬ j - i = 0 by omega)]
    simp
theorem qm_41 {post : Int64 → SY → Prop} {J : Int64 → Int32 → Int32 → Prop} {a0 x : Int64} {b c : Bool} {i : Nat} {g : Int32} {n : Int64} (hi : i < 64)
    (h : qm_O x (qm_b a0) b i) (hc : c = (qm_P (qm_b a0) (i + 1) ^^ b))
    (hJ : ∀ y, qm_O y (qm_b a0) b (i + 1) → J y (qm_i c) (nI (i + 1))) :
    wY_block_41 post J a0 x (qm_i c) (nI i) g n := by
  cases c with
  | false =>
    refine br_t rfl ?_
    intro y ey
    rw [ey, nI_1]
    exact hJ x (qm_Of h hc.symm)
  | true =>
    refine br_f (by decide) ?_
    intro o eo y ey
    rw [ey, nI_1, eo]
    exact hJ _ (qm_Ot hi h hc.symm)
theorem qm_64 : nI 64 = 64 := by decide +kernel
theorem qm_Y (post : Int64 → SY → Prop) (b : Bool) (a0 : Int64) (g : Int32) (n : Int64)
    (hp : ∀ r : Int64, qm_O r (qm_b a0) b 64 → post r (qm_i (qm_P (qm_b a0) 64 ^^ b), n + 1)) :
    ∀ d i x, i + d = 64 → qm_O x (qm_b a0) b i → wY_block_11 post a0 g n (d + 1) x (qm_i (qm_P (qm_b a0) i ^^ b)) (nI i) := by
  intro d
  induction d with
  | zero =>
    intro i x hi h
    have e : i = 64 := by omega
    subst e
    refine br_t (by rw [qm_64]; decide) ?_
    refine ⟨qm_nar _, qm_fit _, ?_⟩
    intro m em
    rw [em]
    exact hp x h
  | succ d ih =>
    intro i x hi h
    have hlt : i < 64 := by omega
    have h64 : ¬ (64 : Int32) ≤ nI i := by rw [← qm_64]; exact nI_ge (by omega) (by omega)
    refine br_f h64 ?_
    have hJ : ∀ c, c = (qm_P (qm_b a0) (i + 1) ^^ b) → ∀ y, qm_O y (qm_b a0) b (i + 1) → wY_block_11 post a0 g n (d + 1) y (qm_i c) (nI (i + 1)) := by
      intro c hc y hy
      rw [hc]
      exact ih (i + 1) y (by omega) hy
    have hs : qm_P (qm_b a0) (i + 1) = (qm_P (qm_b a0) i ^^ qm_b a0 i) := rfl
    by_cases z : qm_b a0 i = false
    · refine br_t ((qm_bit a0 hlt).mpr z) ?_
      have hc : (qm_P (qm_b a0) i ^^ b) = (qm_P (qm_b a0) (i + 1) ^^ b) := by rw [hs, z, Bool.xor_false]
      exact qm_41 hlt h hc (hJ _ hc)
    · refine br_f (fun y => z ((qm_bit a0 hlt).mp y)) ?_
      have zt : qm_b a0 i = true := by
        cases e : qm_b a0 i
        · exact absurd e z
        · rfl
      rw [zt] at hs
      cases e : (qm_P (qm_b a0) i ^^ b) with
      | false =>
        refine br_t rfl ?_
        have hc : true = (qm_P (qm_b a0) (i + 1) ^^ b) := by
          rw [hs]
          revert e
          cases qm_P (qm_b a0) i <;> cases b <;> decide
        exact qm_41 hlt h hc (hJ _ hc)
      | true =>
        refine br_f (by decide) ?_
        have hc : false = (qm_P (qm_b a0) (i + 1) ^^ b) := by
          rw [hs]
          revert e
          cases qm_P (qm_b a0) i <;> cases b <;> decide
        exact qm_41 hlt h hc (hJ _ hc)
/-! what is owed -/
/-- one Bool says whether the text stands within quotes: X keeps it as 0 or -1, Y as 0 or 1; the counts are equal -/
def i_Rel (_ : Nat) (u : SX) (v : SY) : Prop := ∃ (b : Bool) (n : Int64), u = (qm_c b, n) ∧ v = (qm_i b, n)
theorem i_up {k : Nat} {u : SX} {v : SY} (h : i_Rel k u v) : i_Rel (k + 3) u v := h
theorem i_vc0 : wpX_init (fun u => wpY_init (fun v => i_Rel 0 u v)) := ⟨false, 0, rfl, rfl⟩
theorem i_vc_block {k : Nat} {u : SX} {v : SY} (I : i_Rel k u v) (hk : k + 3 ≤ 1536) (a0 : Int64) : wpX_block (fun r u' => wpY_block (fun r' v' => r' = r ∧ i_Rel (k + 3) u' v') v a0) u a0 := by
  obtain ⟨b, n, rfl, rfl⟩ := I
  refine qm_X _ b n a0 ?_
  intro r hr
  refine ⟨65, ?_⟩
  have e0 : b = (qm_P (qm_b a0) 0 ^^ b) := (Bool.false_xor b).symm
  have H := qm_Y (fun r' v' => r' = r ∧ i_Rel (k + 3) (qm_c (qm_P (qm_b a0) 64 ^^ b), n + 1) v') b a0 (qm_i b) n ?_ 64 0 0 rfl (qm_O0 _ _)
  · rw [← e0, nI_0] at H
    exact H
  · intro r' ho
    refine ⟨qm_ext fun j hj => ?_, _, _, rfl, rfl⟩
    rw [ho j hj, hr j hj, decide_eq_true hj, Bool.true_and]
theorem i_vc_inside {k : Nat} {u : SX} {v : SY} (I : i_Rel k u v) (hk : k + 3 ≤ 1536) : wpX_inside (fun r => wpY_inside (fun r' => r' = r ∧ i_Rel (k + 3) u v) v) u := by
  have I' := i_up I
  obtain ⟨b, n, rfl, rfl⟩ := I
  cases b with
  | false => exact br_t rfl ⟨narrow_b0, rfl, I'⟩
  | true => exact br_f (by decide) ⟨narrow_b1, rfl, I'⟩
theorem i_vc_blocks {k : Nat} {u : SX} {v : SY} (I : i_Rel k u v) (hk : k + 3 ≤ 1536) : wpX_blocks (fun r => wpY_blocks (fun r' => r' = r ∧ i_Rel (k + 3) u v) v) u := by
  have I' := i_up I
  obtain ⟨b, n, rfl, rfl⟩ := I
  exact ⟨rfl, I'⟩
end
