section
/-! pasted from kit/rows: stores, masks, shifts, one bit of a long -/
theorem pk_uLs {f : Nat → Int64} {k : Nat} {x : Int64} : vp_updL f k x k = x := if_pos rfl
theorem pk_uLn {f : Nat → Int64} {k j : Nat} {x : Int64} (h : j ≠ k) : vp_updL f k x j = f j := if_neg h
theorem pk_tn {n : Nat} (h : n < 2 ^ 32) : (nI n).toBitVec.toNat = n := Nat.mod_eq_of_lt h
theorem pk_and (x : Int32) {m : Int32} (k : Nat) (hm : m.toBitVec.toNat = 2 ^ k - 1) : x &&& m = nI (x.toBitVec.toNat % 2 ^ k) := by
  apply Int32.toBitVec_inj.mp
  apply BitVec.eq_of_toNat_eq
  rw [Int32.toBitVec_and, BitVec.toNat_and, hm, Nat.and_two_pow_sub_one_eq_mod]
  show _ = (BitVec.ofNat 32 _).toNat
  rw [BitVec.toNat_ofNat]
  exact (Nat.mod_eq_of_lt (Nat.lt_of_le_of_lt (Nat.mod_le _ _) x.toBitVec.isLt)).symm
theorem pk_andN {n : Nat} (h : n < 2 ^ 32) {m : Int32} (k : Nat) (hm : m.toBitVec.toNat = 2 ^ k - 1) : nI n &&& m = nI (n % 2 ^ k) := by
  rw [pk_and _ k hm, pk_tn h]
theorem pk_shr (a s : Int32) (k : Nat) (hs : (s.toBitVec.smod 32).toNat = k) : (a >>> s).toInt = a.toInt >>> k := by
  show (a.toBitVec.sshiftRight (s.toBitVec.smod 32).toNat).toInt = _
  rw [hs, BitVec.toInt_sshiftRight]
  rfl
theorem pk_shrN {n : Nat} (h : n < 2 ^ 31) (s : Int32) (k : Nat) (hs : (s.toBitVec.smod 32).toNat = k) : nI n >>> s = nI (n / 2 ^ k) := by
  apply Int32.toInt_inj.mp
  have h2 : n / 2 ^ k ≤ n := Nat.div_le_self _ _
  rw [pk_shr _ _ k hs, nI_toInt h, nI_toInt (by omega), Int.shiftRight_eq_div_pow]
  rfl
theorem ts_nf {x : Bool} (h : ¬ x = false) : x = true := by cases x <;> first | rfl | exact absurd rfl h
theorem ts_nt {x : Bool} (h : ¬ x = true) : x = false := by cases x <;> first | rfl | exact absurd rfl h
theorem ts_bit {w : Int64} {s : UInt64} {j : Nat} (hj : j < 64) (hs : s.toNat = j) : ((w.toUInt64 >>> s).toInt64 &&& 1) = 0 ↔ w.toBitVec.getLsbD j = false := by
  have e : (w.toUInt64 >>> s).toInt64.toBitVec = w.toBitVec >>> j := by
    apply BitVec.eq_of_toNat_eq
    show (w.toUInt64 >>> s).toNat = _
    rw [UInt64.toNat_shiftRight, hs, Nat.mod_eq_of_lt hj, BitVec.toNat_ushiftRight]
    rfl
  rw [← Int64.toBitVec_inj, Int64.toBitVec_and, e]
  show w.toBitVec >>> j &&& 1#64 = 0#64 ↔ _
  constructor
  · intro h
    have t := congrArg (fun x => x.getLsbD 0) h
    simpa using t
  · intro h
    apply BitVec.eq_of_getLsbD_eq
    intro i hi
    cases i with
    | zero => simp [h]
    | succ i => simp
theorem wb_cu : ∀ k, k < 64 → ((nI k).toInt64.toUInt64 &&& Int64.toUInt64 63) = UInt64.ofNat k := by decide +kernel
theorem u_tn {n : Nat} (h : n < 2 ^ 64) : (UInt64.ofNat n).toNat = n := Nat.mod_eq_of_lt h
end
section
/-! the bits of a long, the union of the frontier's rows, the count of bits: no program in sight -/
/-- bit i of the long x -/
def bf_b (x : Int64) (i : Nat) : Bool := x.toBitVec.getLsbD i
theorem bf_ext {x y : Int64} (h : ∀ i, i < 64 → bf_b x i = bf_b y i) : x = y :=
  Int64.toBitVec_inj.mp (BitVec.eq_of_getLsbD_eq (fun i hi => h i hi))
theorem bf_or (x y : Int64) (i : Nat) : bf_b (x ||| y) i = (bf_b x i || bf_b y i) := by
  unfold bf_b; rw [Int64.toBitVec_or, BitVec.getLsbD_or]
theorem bf_0 (i : Nat) : bf_b 0 i = false := BitVec.getLsbD_zero
theorem bf_andn (x y : Int64) {i : Nat} (hi : i < 64) : bf_b (x &&& (y ^^^ (-1))) i = (bf_b x i && !bf_b y i) := by
  have ha : (-1 : Int64).toBitVec = BitVec.allOnes 64 := by decide
  unfold bf_b
  rw [Int64.toBitVec_and, Int64.toBitVec_xor, ha, BitVec.getLsbD_and, BitVec.getLsbD_xor, BitVec.getLsbD_allOnes, decide_eq_true hi, Bool.xor_true]
theorem bf_one : ∀ v, v < 64 → ((1 : Int64) <<< ((nI v).toInt64 &&& 63)).toBitVec = BitVec.twoPow 64 v := by decide +kernel
theorem bf_sh {v w : Nat} (hv : v < 64) : bf_b ((1 : Int64) <<< ((nI v).toInt64 &&& 63)) w = decide (v = w) := by
  unfold bf_b
  rw [bf_one v hv, BitVec.getLsbD_twoPow, decide_eq_true hv, Bool.true_and]
/-- what the program asks of bit j -/
theorem bf_bit (w : Int64) {j : Nat} (hj : j < 64) : ((w.toUInt64 >>> ((nI j).toInt64.toUInt64 &&& Int64.toUInt64 63)).toInt64 &&& 1) = 0 ↔ bf_b w j = false :=
  ts_bit hj (by rw [wb_cu j hj]; exact u_tn (by omega))
theorem bf_bt {w : Int64} {j : Nat} (hj : j < 64) (h : bf_b w j = true) : ¬ ((w.toUInt64 >>> ((nI j).toInt64.toUInt64 &&& Int64.toUInt64 63)).toInt64 &&& 1) = 0 :=
  fun z => by rw [(bf_bit w hj).mp z] at h; exact absurd h (by decide)
/-- the union of the rows of the frontier's members below u -/
def bf_acc (F : Int64) (R : Nat → Int64) : Nat → Int64
  | 0 => 0
  | u + 1 => if bf_b F u = true then bf_acc F R u ||| R u else bf_acc F R u
theorem bf_acc_b (F : Int64) (R : Nat → Int64) (u w : Nat) : bf_b (bf_acc F R (u + 1)) w = (bf_b (bf_acc F R u) w || (bf_b F u && bf_b (R u) w)) := by
  show bf_b (if bf_b F u = true then bf_acc F R u ||| R u else bf_acc F R u) w = _
  cases h : bf_b F u
  · rw [if_neg (by decide), Bool.false_and, Bool.or_false]
  · rw [if_pos rfl, bf_or, Bool.true_and]
/-- the number of set bits of x below i -/
def bf_cnt (x : Int64) : Nat → Nat
  | 0 => 0
  | i + 1 => if bf_b x i = true then bf_cnt x i + 1 else bf_cnt x i
theorem bf_cnt_0 : ∀ i, bf_cnt 0 i = 0
  | 0 => rfl
  | i + 1 => by
    show (if bf_b 0 i = true then bf_cnt 0 i + 1 else bf_cnt 0 i) = 0
    rw [bf_0, if_neg (by decide)]
    exact bf_cnt_0 i
/-- one more bit, one more in the count -/
theorem bf_cnt_s {x y : Int64} {v : Nat} (hx : bf_b x v = false) (hy : ∀ w, w < 64 → bf_b y w = (bf_b x w || decide (v = w))) : ∀ i, i ≤ 64 → bf_cnt y i = bf_cnt x i + (if v < i then 1 else 0)
  | 0, _ => rfl
  | i + 1, hi => by
    have ih := bf_cnt_s hx hy i (by omega)
    show (if bf_b y i = true then bf_cnt y i + 1 else bf_cnt y i) = (if bf_b x i = true then bf_cnt x i + 1 else bf_cnt x i) + _
    rw [hy i (by omega), ih]
    by_cases e : v = i
    · subst e
      rw [hx, decide_eq_true rfl, Bool.or_true, if_pos rfl, if_neg (Nat.lt_irrefl v), if_neg (show ¬ false = true by decide), if_pos (Nat.lt_succ_self v)]
    · rw [decide_eq_false e, Bool.or_false]
      by_cases l : v < i
      · rw [if_pos l, if_pos (show v < i + 1 by omega)]
        by_cases b : bf_b x i = true
        · rw [if_pos b, if_pos b]
        · rw [if_neg b, if_neg b]
      · rw [if_neg l, if_neg (show ¬ v < i + 1 by omega)]
        by_cases b : bf_b x i = true
        · rw [if_pos b, if_pos b]
        · rw [if_neg b, if_neg b]
/-- the new set after k of the reference's 4096 rounds, by its bits -/
def bf_g (F S : Int64) (R : Nat → Int64) (k w : Nat) : Bool :=
  (bf_b (bf_acc F R (k / 64)) w || (decide (w < k % 64) && (bf_b F (k / 64) && bf_b (R (k / 64)) w))) && !bf_b S w
theorem bf_g0 (F S : Int64) (R : Nat → Int64) (w : Nat) : bf_g F S R 0 w = false := by
  show ((bf_b (0 : Int64) w || (decide (w < 0) && _)) && _) = false
  rw [bf_0, decide_eq_false (by omega)]
  rfl
theorem bf_g1 (F S : Int64) (R : Nat → Int64) {k w : Nat} (hw : w < 64) : bf_g F S R (k + 1) w = (bf_g F S R k w || (decide (k % 64 = w) && (bf_b F (k / 64) && bf_b (R (k / 64)) w && !bf_b S w))) := by
  unfold bf_g
  by_cases h : k % 64 = 63
  · have e1 : (k + 1) / 64 = k / 64 + 1 := by omega
    have e2 : (k + 1) % 64 = 0 := by omega
    rw [e1, e2, h, bf_acc_b, decide_eq_false (show ¬ w < 0 by omega)]
    by_cases e : 63 = w
    · rw [decide_eq_true e, decide_eq_false (show ¬ w < 63 by omega)]
      cases bf_b (bf_acc F R (k / 64)) w <;> cases bf_b F (k / 64) <;> cases bf_b (R (k / 64)) w <;> cases bf_b S w <;> rfl
    · rw [decide_eq_false e, decide_eq_true (show w < 63 by omega)]
      cases bf_b (bf_acc F R (k / 64)) w <;> cases bf_b F (k / 64) <;> cases bf_b (R (k / 64)) w <;> cases bf_b S w <;> rfl
  · have e1 : (k + 1) / 64 = k / 64 := by omega
    have e2 : (k + 1) % 64 = k % 64 + 1 := by omega
    rw [e1, e2]
    by_cases e : k % 64 = w
    · rw [decide_eq_true e, decide_eq_false (show ¬ w < k % 64 by omega), decide_eq_true (show w < k % 64 + 1 by omega)]
      cases bf_b (bf_acc F R (k / 64)) w <;> cases bf_b F (k / 64) <;> cases bf_b (R (k / 64)) w <;> cases bf_b S w <;> rfl
    · rw [decide_eq_false e]
      by_cases l : w < k % 64
      · rw [decide_eq_true l, decide_eq_true (show w < k % 64 + 1 by omega)]
        cases bf_b (bf_acc F R (k / 64)) w <;> cases bf_b F (k / 64) <;> cases bf_b (R (k / 64)) w <;> cases bf_b S w <;> rfl
      · rw [decide_eq_false l, decide_eq_false (show ¬ w < k % 64 + 1 by omega)]
        cases bf_b (bf_acc F R (k / 64)) w <;> cases bf_b F (k / 64) <;> cases bf_b (R (k / 64)) w <;> cases bf_b S w <;> rfl
/-- the reference's invariant: x is the new set after k rounds, c the number of its bits -/
def bf_I (F S : Int64) (R : Nat → Int64) (k : Nat) (x : Int64) (c : Int32) : Prop :=
  (∀ w, w < 64 → bf_b x w = bf_g F S R k w) ∧ c = nI (bf_cnt x 64)
theorem bf_I0 (F S : Int64) (R : Nat → Int64) : bf_I F S R 0 0 0 :=
  ⟨fun w _ => by rw [bf_0, bf_g0], by rw [bf_cnt_0]; exact nI_0.symm⟩
/-- a round that adds nothing -/
theorem bf_Ik {F S : Int64} {R : Nat → Int64} {k : Nat} {x : Int64} {c : Int32} (I : bf_I F S R k x c)
    (h : bf_b F (k / 64) = false ∨ bf_b (R (k / 64)) (k % 64) = false ∨ bf_b (S ||| x) (k % 64) = true) : bf_I F S R (k + 1) x c := by
  refine ⟨fun w hw => ?_, I.2⟩
  rw [bf_g1 F S R hw, ← I.1 w hw]
  by_cases e : k % 64 = w
  · rw [decide_eq_true e, Bool.true_and]
    rw [e, bf_or] at h
    revert h
    cases bf_b x w <;> cases bf_b F (k / 64) <;> cases bf_b (R (k / 64)) w <;> cases bf_b S w <;> decide
  · rw [decide_eq_false e, Bool.false_and, Bool.or_false]
/-- a round that adds its bit -/
theorem bf_Ia {F S : Int64} {R : Nat → Int64} {k : Nat} {x : Int64} {c : Int32} (I : bf_I F S R k x c)
    (hF : bf_b F (k / 64) = true) (hR : bf_b (R (k / 64)) (k % 64) = true) (h : bf_b (S ||| x) (k % 64) = false) :
    bf_I F S R (k + 1) (x ||| ((1 : Int64) <<< ((nI (k % 64)).toInt64 &&& 63))) (c + 1) := by
  have hv : k % 64 < 64 := Nat.mod_lt _ (by decide)
  rw [bf_or, Bool.or_eq_false_iff] at h
  have hy : ∀ w, w < 64 → bf_b (x ||| ((1 : Int64) <<< ((nI (k % 64)).toInt64 &&& 63))) w = (bf_b x w || decide (k % 64 = w)) := by
    intro w _
    rw [bf_or, bf_sh hv]
  refine ⟨fun w hw => ?_, ?_⟩
  · rw [hy w hw, bf_g1 F S R hw, ← I.1 w hw]
    by_cases e : k % 64 = w
    · rw [← e, hF, hR, h.1, decide_eq_true rfl]
      rfl
    · rw [decide_eq_false e, Bool.false_and]
  · rw [bf_cnt_s h.2 hy 64 (by omega), if_pos hv, ← nI_1, I.2]
/-- what the component finds -/
def bf_nx (F S : Int64) (R : Nat → Int64) : Int64 := bf_acc F R 64 &&& (S ^^^ (-1))
theorem bf_Iz {F S : Int64} {R : Nat → Int64} {x : Int64} {c : Int32} (I : bf_I F S R 4096 x c) : x = bf_nx F S R ∧ c = nI (bf_cnt (bf_nx F S R) 64) := by
  have e : x = bf_nx F S R := by
    apply bf_ext
    intro w hw
    rw [I.1 w hw]
    unfold bf_nx bf_g
    rw [bf_andn _ _ hw, decide_eq_false (show ¬ w < 4096 % 64 by omega), Bool.false_and, Bool.or_false]
  exact ⟨e, by rw [← e]; exact I.2⟩
end
section
/-! the walks, and what is owed -/
/-- the two objects hold the same frontier, the same seen set, the same rows -/
def i_Rel (_ : Nat) (u : SX) (v : SY) : Prop := u = v
theorem i_up {k : Nat} {u : SX} {v : SY} (h : i_Rel k u v) : i_Rel (k + 4) u v := h
theorem i_vc0 : wpX_init (fun u => wpY_init (fun v => i_Rel 0 u v)) := rfl
theorem bf_64 : nI 64 = 64 := by decide +kernel
theorem bf_4096 : nI 4096 = 4096 := by decide +kernel
theorem bf_in {x : Int32} (h0 : ¬ x < 0) (h : x ≤ 63) : vp_in x 64 := by
  obtain ⟨j, hj, rfl⟩ := nI_of2 (M := 63) (n := 63) (by decide) h0 h
  exact vp_in_nI (by omega) (by omega)
theorem i_vc_join {k : Nat} {u : SX} {v : SY} (I : i_Rel k u v) (hk : k + 4 ≤ 2048) (v1 : Int32) (a1 : Int64) : wpX_join (fun r u' => wpY_join (fun r' v' => r' = r ∧ i_Rel (k + 4) u' v') v v1 a1) u v1 a1 := by
  cases I
  obtain ⟨F, S, R⟩ := u
  by_cases h0 : v1 < 0
  · exact br_t h0 (br_t h0 ⟨rfl, rfl⟩)
  · by_cases h : v1 ≤ 63
    · have hi : vp_in v1 64 := bf_in h0 h
      refine br_f h0 (br_t h ⟨hi, hi, nm_e ⟨hi, br_f h0 (br_t h ⟨hi, hi, nm_e ⟨?_, rfl⟩⟩)⟩⟩)
      exact pk_uLs.symm
    · exact br_f h0 (br_f h (br_f h0 (br_f h ⟨rfl, rfl⟩)))
theorem i_vc_seed {k : Nat} {u : SX} {v : SY} (I : i_Rel k u v) (hk : k + 4 ≤ 2048) (v1 : Int32) : wpX_seed (fun r u' => wpY_seed (fun r' v' => r' = r ∧ i_Rel (k + 4) u' v') v v1) u v1 := by
  cases I
  obtain ⟨F, S, R⟩ := u
  by_cases h0 : v1 < 0
  · exact br_t h0 (br_t h0 ⟨rfl, rfl⟩)
  · by_cases h : v1 ≤ 63
    · exact br_f h0 (br_t h (nm_e (br_f h0 (br_t h (nm_e (nm_e ⟨rfl, rfl⟩))))))
    · exact br_f h0 (br_f h (br_f h0 (br_f h ⟨rfl, rfl⟩)))
/-- the component's second loop counts the bits -/
theorem bf_x70 {post : Int32 → SX → Prop} {x F S : Int64} {R : Nat → Int64} (hp : post (nI (bf_cnt x 64)) (F, S, R)) :
    ∀ d j : Nat, j + d = 64 → wX_step_70 post x F S R (d + 1) (nI (bf_cnt x j)) (nI j) := by
  intro d
  induction d with
  | zero =>
    intro j hj
    obtain rfl : j = 64 := by omega
    exact br_t (by rw [bf_64]; exact Int32.le_refl _) hp
  | succ d ih =>
    intro j hj
    have h : ¬ (64 : Int32) ≤ nI j := by rw [← bf_64]; exact nI_ge (by omega) (by omega)
    have hj64 : j < 64 := by omega
    have ih1 := ih (j + 1) (by omega)
    cases b : bf_b x j
    · have e : bf_cnt x (j + 1) = bf_cnt x j := if_neg (by rw [b]; decide)
      rw [e] at ih1
      exact br_f h (br_t ((bf_bit x hj64).mpr b) (nm_r (nI_1 j) ih1))
    · have e : bf_cnt x (j + 1) = bf_cnt x j + 1 := if_pos b
      rw [e] at ih1
      exact br_f h (br_f (bf_bt hj64 b) (nm_r (nI_1 _) (nm_r (nI_1 j) ih1)))
/-- the component's first loop gathers the rows -/
theorem bf_x4 {post : Int32 → SX → Prop} {F S : Int64} {R : Nat → Int64} (hp : post (nI (bf_cnt (bf_nx F S R) 64)) (bf_nx F S R, S ||| bf_nx F S R, R)) :
    ∀ d j : Nat, j + d = 64 → wX_step_4 post F S R (d + 1) (bf_acc F R j) (nI j) := by
  intro d
  induction d with
  | zero =>
    intro j hj
    obtain rfl : j = 64 := by omega
    exact br_t (by rw [bf_64]; exact Int32.le_refl _) (nm_e (nm_e ⟨65, bf_x70 hp 64 0 rfl⟩))
  | succ d ih =>
    intro j hj
    have h : ¬ (64 : Int32) ≤ nI j := by rw [← bf_64]; exact nI_ge (by omega) (by omega)
    have hj64 : j < 64 := by omega
    have hi : vp_in (nI j) 64 := vp_in_nI hj64 (by omega)
    have ih1 := ih (j + 1) (by omega)
    cases b : bf_b F j
    · have e : bf_acc F R (j + 1) = bf_acc F R j := if_neg (by rw [b]; decide)
      rw [e] at ih1
      exact br_f h (br_t ((bf_bit F hj64).mpr b) (nm_r (nI_1 j) ih1))
    · have e : bf_acc F R (j + 1) = bf_acc F R j ||| R j := if_pos b
      rw [e] at ih1
      exact br_f h (br_f (bf_bt hj64 b) ⟨hi, nm_r (by rw [nI_clamp (by omega)]) (nm_r (nI_1 j) ih1)⟩)
/-- the reference's loop finds the same set and the same count -/
theorem bf_y7 {post : Int32 → SY → Prop} {F S : Int64} {R : Nat → Int64} (hp : post (nI (bf_cnt (bf_nx F S R) 64)) (bf_nx F S R, S ||| bf_nx F S R, R)) :
    ∀ (d k : Nat) (x : Int64) (c : Int32), k + d = 4096 → bf_I F S R k x c → wY_step_7 post F S R (d + 1) x c (nI k) := by
  intro d
  induction d with
  | zero =>
    intro k x c hk I
    obtain rfl : k = 4096 := by omega
    obtain ⟨rfl, rfl⟩ := bf_Iz I
    exact br_t (by rw [bf_4096]; exact Int32.le_refl _) (nm_e hp)
  | succ d ih =>
    intro k x c hk I
    have h : ¬ (4096 : Int32) ≤ nI k := by rw [← bf_4096]; exact nI_ge (by omega) (by omega)
    have hu : k / 64 < 64 := by omega
    have hv : k % 64 < 64 := by omega
    have eu : nI k >>> ((6 : Int32) &&& 31) = nI (k / 64) := pk_shrN (by omega) _ 6 (by decide)
    have ev : nI k &&& 63 = nI (k % 64) := pk_andN (by omega) 6 (by decide)
    have hi : vp_in (nI (k / 64)) 64 := vp_in_nI hu (by omega)
    have ec : (nI (k / 64)).toNatClampNeg = k / 64 := nI_clamp (by omega)
    refine br_f h (nm_r eu (nm_r ev ?_))
    cases bF : bf_b F (k / 64)
    · exact br_t ((bf_bit F hu).mpr bF) (nm_r (nI_1 k) (ih (k + 1) x c (by omega) (bf_Ik I (Or.inl bF))))
    · refine br_f (bf_bt hu bF) ⟨hi, ?_⟩
      rw [ec]
      cases bR : bf_b (R (k / 64)) (k % 64)
      · exact br_t ((bf_bit _ hv).mpr bR) (nm_r (nI_1 k) (ih (k + 1) x c (by omega) (bf_Ik I (Or.inr (Or.inl bR)))))
      · refine br_f (bf_bt hv bR) ?_
        cases bS : bf_b (S ||| x) (k % 64)
        · exact br_t ((bf_bit _ hv).mpr bS) (nm_e (nm_e (nm_r (nI_1 k) (ih (k + 1) _ _ (by omega) (bf_Ia I bF bR bS)))))
        · exact br_f (bf_bt hv bS) (nm_r (nI_1 k) (ih (k + 1) x c (by omega) (bf_Ik I (Or.inr (Or.inr bS)))))
theorem i_vc_step {k : Nat} {u : SX} {v : SY} (I : i_Rel k u v) (hk : k + 4 ≤ 2048) : wpX_step (fun r u' => wpY_step (fun r' v' => r' = r ∧ i_Rel (k + 4) u' v') v) u := by
  cases I
  obtain ⟨F, S, R⟩ := u
  exact ⟨65, bf_x4 ⟨4097, bf_y7 ⟨rfl, rfl⟩ 4096 0 0 0 rfl (bf_I0 F S R)⟩ 64 0 rfl⟩
theorem i_vc_seenMask {k : Nat} {u : SX} {v : SY} (I : i_Rel k u v) (hk : k + 4 ≤ 2048) : wpX_seenMask (fun r => wpY_seenMask (fun r' => r' = r ∧ i_Rel (k + 4) u v) v) u := by
  cases I
  obtain ⟨F, S, R⟩ := u
  exact ⟨rfl, rfl⟩
end
