section
/-! ===== Int32 by its bits: bt x i ===== -/
def bt (x : Int32) (i : Nat) : Bool := x.toBitVec.getLsbD i
theorem b_ext {x y : Int32} (h : ∀ i, i < 32 → bt x i = bt y i) : x = y := Int32.toBitVec_inj.mp (BitVec.eq_of_getLsbD_eq (fun i hi => h i hi))
theorem b_or (x y : Int32) (i : Nat) : bt (x ||| y) i = (bt x i || bt y i) := by unfold bt; rw [Int32.toBitVec_or, BitVec.getLsbD_or]
theorem b_and (x y : Int32) (i : Nat) : bt (x &&& y) i = (bt x i && bt y i) := by unfold bt; rw [Int32.toBitVec_and, BitVec.getLsbD_and]
theorem b_xor (x y : Int32) (i : Nat) : bt (x ^^^ y) i = (bt x i ^^ bt y i) := by unfold bt; rw [Int32.toBitVec_xor, BitVec.getLsbD_xor]
theorem b_big {x : Int32} {i : Nat} (h : 32 ≤ i) : bt x i = false := BitVec.getLsbD_of_ge _ _ h
theorem b_255 (i : Nat) : bt 255 i = decide (i < 8) := by
  rcases Nat.lt_or_ge i 32 with h | h
  · exact (by decide +kernel : ∀ i, i < 32 → bt 255 i = decide (i < 8)) i h
  · rw [b_big h, decide_eq_false (by omega)]
theorem b_65535 (i : Nat) : bt 65535 i = decide (i < 16) := by
  rcases Nat.lt_or_ge i 32 with h | h
  · exact (by decide +kernel : ∀ i, i < 32 → bt 65535 i = decide (i < 16)) i h
  · rw [b_big h, decide_eq_false (by omega)]
theorem b_m1 : ∀ i, i < 32 → bt (-1) i = true := by decide +kernel
theorem b_0 (i : Nat) : bt 0 i = false := BitVec.getLsbD_zero
theorem s_l : ∀ n, n < 32 → ((nI n &&& 31).toBitVec.smod 32).toNat = n := by decide +kernel
theorem s_u : ∀ n, n < 32 → (((nI n).toUInt32 &&& Int32.toUInt32 31).toBitVec % 32).toNat = n := by decide +kernel
theorem b_shl (n : Nat) (hn : n < 32) (x : Int32) {i : Nat} (hi : i < 32) : bt (x <<< (nI n &&& 31)) i = (decide (n ≤ i) && bt x (i - n)) := by
  unfold bt
  rw [Int32.toBitVec_shiftLeft]
  show (x.toBitVec <<< ((nI n &&& 31).toBitVec.smod 32).toNat).getLsbD i = _
  rw [s_l n hn, BitVec.getLsbD_shiftLeft]
  rcases Nat.lt_or_ge i n with h | h
  · simp [h, Nat.not_le.mpr h]
  · simp [hi, h, Nat.not_lt.mpr h]
theorem b_ushr (n : Nat) (hn : n < 32) (x : Int32) (i : Nat) : bt ((x.toUInt32 >>> ((nI n).toUInt32 &&& Int32.toUInt32 31)).toInt32) i = bt x (n + i) := by
  show (x.toUInt32 >>> ((nI n).toUInt32 &&& Int32.toUInt32 31)).toBitVec.getLsbD i = x.toUInt32.toBitVec.getLsbD (n + i)
  rw [UInt32.toBitVec_shiftRight]
  show (x.toUInt32.toBitVec >>> (((nI n).toUInt32 &&& Int32.toUInt32 31).toBitVec % 32).toNat).getLsbD i = _
  rw [s_u n hn, BitVec.getLsbD_ushiftRight]
theorem b_sshr (n : Nat) (hn : n < 32) (x : Int32) {i : Nat} (hi : i < 32) : bt (x >>> (nI n &&& 31)) i = if n + i < 32 then bt x (n + i) else bt x 31 := by
  unfold bt
  rw [Int32.toBitVec_shiftRight]
  show (x.toBitVec.sshiftRight ((nI n &&& 31).toBitVec.smod 32).toNat).getLsbD i = _
  rw [s_l n hn, BitVec.getLsbD_sshiftRight, BitVec.msb_eq_getLsbD_last]
  simp [hi]
theorem pk_us {f : Nat → Int32} {k : Nat} {x : Int32} : upd f k x k = x := if_pos rfl
theorem pk_un {f : Nat → Int32} {k j : Nat} {x : Int32} (h : j ≠ k) : upd f k x j = f j := if_neg h
theorem pk_tn {n : Nat} (h : n < 2 ^ 32) : (nI n).toBitVec.toNat = n := Nat.mod_eq_of_lt h
theorem pk_and (x : Int32) {m : Int32} (k : Nat) (hm : m.toBitVec.toNat = 2 ^ k - 1) : x &&& m = nI (x.toBitVec.toNat % 2 ^ k) := by
  apply Int32.toBitVec_inj.mp
  apply BitVec.eq_of_toNat_eq
  rw [Int32.toBitVec_and, BitVec.toNat_and, hm, Nat.and_two_pow_sub_one_eq_mod]
  show _ = (BitVec.ofNat 32 _).toNat
  rw [BitVec.toNat_ofNat]
  exact (Nat.mod_eq_of_lt (Nat.lt_of_le_of_lt (Nat.mod_le _ _) x.toBitVec.isLt)).symm
theorem pk_andN {n : Nat} (h : n < 2 ^ 32) {m : Int32} (k : Nat) (hm : m.toBitVec.toNat = 2 ^ k - 1) : nI n &&& m = nI (n % 2 ^ k) := by
  rw [pk_and _ k hm, pk_tn h]
theorem pk_shr (a s : Int32) (k : Nat) (hs : (s.toBitVec.smod 32).toNat = k) : (a >>> s).toInt = a.toInt >>> k := by
  show (a.toBitVec.sshiftRight (s.toBitVec.smod 32).toNat).toInt = _
  rw [hs, BitVec.toInt_sshiftRight]
  rfl
theorem pk_shrN {n : Nat} (h : n < 2 ^ 31) (s : Int32) (k : Nat) (hs : (s.toBitVec.smod 32).toNat = k) : nI n >>> s = nI (n / 2 ^ k) := by
  apply Int32.toInt_inj.mp
  have h2 : n / 2 ^ k ≤ n := Nat.div_le_self _ _
  rw [pk_shr _ _ k hs, nI_toInt h, nI_toInt (by omega), Int.shiftRight_eq_div_pow]
  rfl
theorem pk_vs (z : Int32) : vp_nar .short z.toInt16.toInt32 = z.toInt16.toInt32 := by rw [vp_nar_short]; simp
end
section
/-! single bits as ints, shorts by their sixteen bits -/
def wc_bi (b : Bool) : Int32 := if b then 1 else 0
theorem wc_b1 (i : Nat) : bt 1 i = decide (i = 0) := by
  rcases Nat.lt_or_ge i 32 with h | h
  · exact (by decide +kernel : ∀ i, i < 32 → bt 1 i = decide (i = 0)) i h
  · rw [b_big h, decide_eq_false (by omega)]
theorem wc_and1 (x : Int32) : x &&& 1 = wc_bi (bt x 0) := by
  apply b_ext
  intro i hi
  rw [b_and, wc_b1]
  rcases Nat.eq_zero_or_pos i with rfl | h
  · cases bt x 0 <;> decide +kernel
  · rw [decide_eq_false (by omega), Bool.and_false]
    cases bt x 0
    · exact (b_0 i).symm
    · show false = bt 1 i
      rw [wc_b1, decide_eq_false (by omega)]
theorem wc_xb (x : Int32) {b : Nat} (hb : b < 16) : ((((x &&& 65535).toUInt32 >>> ((nI b).toUInt32 &&& Int32.toUInt32 31)).toInt32) &&& 1) = wc_bi (bt x b) := by
  rw [wc_and1, b_ushr b (by omega), Nat.add_zero, b_and, b_65535, decide_eq_true hb, Bool.and_true]
theorem wc_yb (x : Int32) {b : Nat} (hb : b < 16) : ((x >>> (nI b &&& 31)) &&& 1) = wc_bi (bt x b) := by
  rw [wc_and1, b_sshr b (by omega) x (by omega), if_pos (by omega), Nat.add_zero]
theorem wc_t0 {x : Int32} {b : Bool} (e : x = wc_bi b) (h : b = false) : x = 0 := by
  rw [e, h]; rfl
theorem wc_t1 {x : Int32} {b : Bool} (e : x = wc_bi b) (h : b = true) : ¬ x = 0 := by
  rw [e, h]; decide
theorem wc_sb (x : Int32) {i : Nat} (hi : i < 32) : bt x.toInt16.toInt32 i = if i < 16 then bt x i else bt x 15 := by
  show ((x.toBitVec.signExtend 16).signExtend 32).getLsbD i = if i < 16 then x.toBitVec.getLsbD i else x.toBitVec.getLsbD 15
  rw [BitVec.getLsbD_signExtend, decide_eq_true hi, Bool.true_and]
  by_cases h : i < 16
  · rw [if_pos h, if_pos h, BitVec.getLsbD_signExtend, decide_eq_true h, if_pos (by omega), Bool.true_and]
  · rw [if_neg h, if_neg h, BitVec.msb_eq_getLsbD_last, BitVec.getLsbD_signExtend]
    simp
def wc_sh (x : Int32) : Prop := x.toInt16.toInt32 = x
theorem wc_sh_hi {x : Int32} (h : wc_sh x) {i : Nat} (h16 : 16 ≤ i) (hi : i < 32) : bt x i = bt x 15 := by
  have e := wc_sb x hi
  rw [if_neg (by omega), show x.toInt16.toInt32 = x from h] at e
  exact e
theorem wc_sh_s (x : Int32) : wc_sh x.toInt16.toInt32 := by
  show x.toInt16.toInt32.toInt16.toInt32 = _
  simp
theorem wc_sh_ext {x y : Int32} (hx : wc_sh x) (hy : wc_sh y) (h : ∀ b, b < 16 → bt x b = bt y b) : x = y := by
  apply b_ext
  intro i hi
  by_cases h16 : i < 16
  · exact h i h16
  · rw [wc_sh_hi hx (by omega) hi, wc_sh_hi hy (by omega) hi]
    exact h 15 (by omega)
theorem wc_sh_or {x y : Int32} (hx : wc_sh x) (hy : wc_sh y) : wc_sh (x ||| y) := by
  apply b_ext
  intro i hi
  rw [wc_sb _ hi]
  by_cases h16 : i < 16
  · rw [if_pos h16]
  · rw [if_neg h16, b_or, b_or, wc_sh_hi hx (by omega) hi, wc_sh_hi hy (by omega) hi]
theorem wc_sh0 : wc_sh 0 := by unfold wc_sh; decide
/-- the component's store of two rows -/
theorem wc_w16 {x y : Int32} (hx : wc_sh x) (hy : wc_sh y) : vp_nar .short (((x &&& 65535) ||| (y &&& 65535)).toInt16.toInt32) = x ||| y := by
  rw [pk_vs]
  apply wc_sh_ext (wc_sh_s _) (wc_sh_or hx hy)
  intro b hb
  rw [wc_sb _ (by omega), if_pos hb, b_or, b_or, b_and, b_and, b_65535, decide_eq_true hb, Bool.and_true, Bool.and_true]
/-- the component's store of one bit is the reference's -/
theorem wc_w1 (x y : Int32) : vp_nar .short (((x &&& 65535) ||| y).toInt16.toInt32) = vp_nar .short ((x ||| y).toInt16.toInt32) := by
  rw [pk_vs, pk_vs]
  apply wc_sh_ext (wc_sh_s _) (wc_sh_s _)
  intro b hb
  rw [wc_sb _ (by omega), if_pos hb, wc_sb _ (by omega), if_pos hb, b_or, b_or, b_and, b_65535, decide_eq_true hb, Bool.and_true]
theorem wc_one {j b : Nat} (hj : j < 16) (hb : b < 16) : bt ((1 : Int32) <<< (nI j &&& 31)) b = decide (b = j) := by
  rw [b_shl j (by omega) 1 (by omega), wc_b1]
  by_cases h : b = j
  · subst h
    rw [decide_eq_true (by omega), decide_eq_true (by omega), decide_eq_true rfl]; rfl
  · rw [decide_eq_false h]
    by_cases h2 : j ≤ b
    · rw [decide_eq_false (show ¬ b - j = 0 by omega), Bool.and_false]
    · rw [decide_eq_false h2, Bool.false_and]
/-! the pure picture: one row step, a round, the whole closure; the count -/
def wc_Sh (a : Nat → Int32) : Prop := ∀ j, wc_sh (a j)
def wc_st (a : Nat → Int32) (k i : Nat) : Nat → Int32 := if bt (a i) k = true then upd a i (a i ||| a k) else a
def wc_it (k : Nat) : Nat → Nat → (Nat → Int32) → (Nat → Int32)
  | 0, _, a => a
  | d + 1, i, a => wc_it k d (i + 1) (wc_st a k i)
def wc_ot (a : Nat → Int32) : Nat → (Nat → Int32)
  | 0 => a
  | k + 1 => wc_it k 16 0 (wc_ot a k)
def wc_ci (r : Int32) : Nat → Nat → Int32 → Int32
  | 0, _, c => c
  | d + 1, b, c => wc_ci r d (b + 1) (c + wc_bi (bt r b))
def wc_co (a : Nat → Int32) : Nat → Nat → Int32 → Int32
  | 0, _, c => c
  | d + 1, i, c => wc_co a d (i + 1) (wc_ci (a i) 16 0 c)
theorem wc_Sh_upd {a : Nat → Int32} (h : wc_Sh a) (i : Nat) {x : Int32} (hx : wc_sh x) : wc_Sh (upd a i x) := by
  intro m
  by_cases e : m = i
  · subst e; rw [pk_us]; exact hx
  · rw [pk_un e]; exact h m
theorem wc_Sh_st {a : Nat → Int32} (h : wc_Sh a) (k i : Nat) : wc_Sh (wc_st a k i) := by
  unfold wc_st
  by_cases hb : bt (a i) k = true
  · rw [if_pos hb]; exact wc_Sh_upd h i (wc_sh_or (h i) (h k))
  · rw [if_neg hb]; exact h
theorem wc_Sh_it (k : Nat) : ∀ (d i : Nat) (a : Nat → Int32), wc_Sh a → wc_Sh (wc_it k d i a) := by
  intro d
  induction d with
  | zero => intro i a h; exact h
  | succ d ih => intro i a h; exact ih (i + 1) _ (wc_Sh_st h k i)
theorem wc_Sh_ot {a : Nat → Int32} (h : wc_Sh a) : ∀ k, wc_Sh (wc_ot a k) := by
  intro k
  induction k with
  | zero => exact h
  | succ k ih => exact wc_Sh_it k 16 0 _ ih
theorem wc_st_ne {a : Nat → Int32} {k i m : Nat} (h : m ≠ i) : wc_st a k i m = a m := by
  unfold wc_st
  by_cases hb : bt (a i) k = true
  · rw [if_pos hb, pk_un h]
  · rw [if_neg hb]
theorem wc_st_bit (a : Nat → Int32) (k i b : Nat) : bt (wc_st a k i i) b = (bt (a i) b || (bt (a i) k && bt (a k) b)) := by
  unfold wc_st
  cases hb : bt (a i) k with
  | false => rw [if_neg (by decide), Bool.false_and, Bool.or_false]
  | true => rw [if_pos rfl, pk_us, b_or, Bool.true_and]
theorem wc_it_lo (k : Nat) : ∀ (d i m : Nat) (a : Nat → Int32), m < i → wc_it k d i a m = a m := by
  intro d
  induction d with
  | zero => intro i m a h; rfl
  | succ d ih =>
    intro i m a h
    show wc_it k d (i + 1) (wc_st a k i) m = a m
    rw [ih (i + 1) m _ (by omega), wc_st_ne (by omega)]
/-! the reference's single bit step, and what stands in the midst of a row -/
def wc_sj (a : Nat → Int32) (k i j : Nat) : Nat → Int32 := if bt (a i) k = true ∧ bt (a k) j = true then upd a i ((a i ||| ((1 : Int32) <<< (nI j &&& 31))).toInt16.toInt32) else a
def wc_Mid (a : Nat → Int32) (k i j : Nat) (a' : Nat → Int32) : Prop := (∀ m, m ≠ i → a' m = a m) ∧ wc_sh (a' i) ∧ ∀ b, b < 16 → bt (a' i) b = (bt (a i) b || (decide (b < j) && (bt (a i) k && bt (a k) b)))
theorem wc_mid0 {a : Nat → Int32} (h : wc_Sh a) (k i : Nat) : wc_Mid a k i 0 a := ⟨fun _ _ => rfl, h i, fun b _ => by rw [decide_eq_false (by omega), Bool.false_and, Bool.or_false]⟩
theorem wc_mid16 {a a' : Nat → Int32} (h : wc_Sh a) {k i : Nat} (M : wc_Mid a k i 16 a') : a' = wc_st a k i := by
  obtain ⟨h1, h2, h3⟩ := M
  funext m
  by_cases e : m = i
  · subst e
    apply wc_sh_ext h2 (wc_Sh_st h k m m)
    intro b hb
    rw [h3 b hb, wc_st_bit, decide_eq_true hb, Bool.true_and]
  · rw [h1 m e, wc_st_ne e]
theorem wc_midS {a a' : Nat → Int32} {k i j : Nat} (hk : k < 16) (hj : j < 16) (M : wc_Mid a k i j a') : wc_Mid a k i (j + 1) (wc_sj a' k i j) ∧ bt (wc_sj a' k i j i) j = bt (wc_st a k i i) j := by
  obtain ⟨h1, h2, h3⟩ := M
  have ek : bt (a' i) k = bt (a i) k := by
    rw [h3 k hk]
    cases bt (a i) k <;> simp
  have ej : bt (a' k) j = bt (a k) j := by
    by_cases e : k = i
    · subst e
      rw [h3 j hj, decide_eq_false (by omega), Bool.false_and, Bool.or_false]
    · rw [h1 k e]
  have key : wc_Mid a k i (j + 1) (wc_sj a' k i j) := by
    unfold wc_sj
    rw [ek, ej]
    by_cases hc : bt (a i) k = true ∧ bt (a k) j = true
    · rw [if_pos hc]
      refine ⟨fun m hm => by rw [pk_un hm]; exact h1 m hm, by rw [pk_us]; exact wc_sh_s _, fun b hb => ?_⟩
      rw [pk_us, wc_sb _ (by omega), if_pos hb, b_or, h3 b hb, wc_one hj hb]
      by_cases e : b = j
      · subst e
        rw [hc.1, hc.2]
        simp
      · have e2 : decide (b < j) = decide (b < j + 1) := decide_eq_decide.mpr (by omega)
        rw [decide_eq_false e, Bool.or_false, e2]
    · rw [if_neg hc]
      refine ⟨h1, h2, fun b hb => ?_⟩
      rw [h3 b hb]
      by_cases e : b = j
      · subst e
        have z : (bt (a i) k && bt (a k) b) = false := by
          cases h4 : bt (a i) k
          · rfl
          · cases h5 : bt (a k) b
            · rfl
            · exact absurd ⟨h4, h5⟩ hc
        rw [z, Bool.and_false, Bool.and_false]
      · have e2 : decide (b < j) = decide (b < j + 1) := decide_eq_decide.mpr (by omega)
        rw [e2]
  refine ⟨key, ?_⟩
  rw [key.2.2 j hj, wc_st_bit, decide_eq_true (by omega), Bool.true_and]
end
section
/-! the component's loops against the pure picture -/
theorem wc_x10 (post : Int32 → SX → Prop) (J2 : Int32 → (Nat → Int32) → Prop) {k : Nat} (hk : k < 16) : ∀ (d i : Nat) (a : Nat → Int32), i + d = 16 → wc_Sh a → J2 (nI (k + 1)) (wc_it k d i a) → wX_close_10 post J2 (nI k) (d + 1) (nI i) a := by
  intro d
  induction d with
  | zero =>
    intro i a hi hs hJ
    have h : (16 : Int32) ≤ nI i := nI_le (a := 16) (by omega) (by omega)
    exact br_t h (nm_r (nI_1 k) hJ)
  | succ d ih =>
    intro i a hi hs hJ
    have h : ¬ (16 : Int32) ≤ nI i := nI_ge (b := 16) (by omega) (by omega)
    have hI : vp_in (nI i) 16 := vp_in_nI (by omega) (by omega)
    have hK : vp_in (nI k) 16 := vp_in_nI hk (by omega)
    have ci : (nI i).toNatClampNeg = i := nI_clamp (by omega)
    have ck : (nI k).toNatClampNeg = k := nI_clamp (by omega)
    refine br_f h ⟨hI, nm_r (e' := a i &&& 65535) (by rw [ci]) ?_⟩
    cases hb : bt (a i) k with
    | false =>
      have e : wc_st a k i = a := if_neg (by rw [hb]; decide)
      have hJ' : J2 (nI (k + 1)) (wc_it k d (i + 1) (wc_st a k i)) := hJ
      rw [e] at hJ'
      exact br_t (wc_t0 (wc_xb (a i) hk) hb) (nm_r (nI_1 i) (ih (i + 1) a (by omega) hs hJ'))
    | true =>
      refine br_f (wc_t1 (wc_xb (a i) hk) hb) ⟨hK, nm_r (e' := a k &&& 65535) (by rw [ck]) ⟨hI, nm_r (e' := wc_st a k i) ?_ (nm_r (nI_1 i) (ih (i + 1) _ (by omega) (wc_Sh_st hs k i) hJ))⟩⟩
      rw [wc_st, if_pos hb, ci, wc_w16 (hs i) (hs k)]
theorem wc_x91 (post : Int32 → SX → Prop) (J72 : Int32 → Int32 → Prop) (x2 r : Int32) (a : Nat → Int32) : ∀ (d b : Nat) (c : Int32), b + d = 16 → J72 (wc_ci r d b c) (x2 + 1) → wX_close_91 post J72 x2 (r &&& 65535) a (d + 1) c (nI b) := by
  intro d
  induction d with
  | zero =>
    intro b c hb hJ
    have h : (16 : Int32) ≤ nI b := nI_le (a := 16) (by omega) (by omega)
    exact br_t h (nm_e hJ)
  | succ d ih =>
    intro b c hb hJ
    have h : ¬ (16 : Int32) ≤ nI b := nI_ge (b := 16) (by omega) (by omega)
    exact br_f h (nm_r (e' := c + wc_bi (bt r b)) (congrArg (c + ·) (wc_xb r (by omega))) (nm_r (nI_1 b) (ih (b + 1) _ (by omega) hJ)))
theorem wc_x72 (post : Int32 → SX → Prop) (a : Nat → Int32) : ∀ (d i : Nat) (c : Int32), i + d = 16 → post (wc_co a d i c) a → wX_close_72 post a (d + 1) c (nI i) := by
  intro d
  induction d with
  | zero =>
    intro i c hi hp
    have h : (16 : Int32) ≤ nI i := nI_le (a := 16) (by omega) (by omega)
    exact br_t h hp
  | succ d ih =>
    intro i c hi hp
    have h : ¬ (16 : Int32) ≤ nI i := nI_ge (b := 16) (by omega) (by omega)
    have hI : vp_in (nI i) 16 := vp_in_nI (by omega) (by omega)
    have ci : (nI i).toNatClampNeg = i := nI_clamp (by omega)
    have g : wX_close_72 post a (d + 1) (wc_ci (a i) 16 0 c) (nI i + 1) := by
      rw [nI_1]
      exact ih (i + 1) _ (by omega) hp
    exact br_f h ⟨hI, nm_r (e' := a i &&& 65535) (by rw [ci]) ⟨17, wc_x91 post (wX_close_72 post a (d + 1)) (nI i) (a i) a 16 0 c rfl g⟩⟩
theorem wc_x2 (post : Int32 → SX → Prop) {a : Nat → Int32} (hs : wc_Sh a) (hp : post (wc_co (wc_ot a 16) 16 0 0) (wc_ot a 16)) : ∀ (d k : Nat), k + d = 16 → wX_close_2 post (d + 1) (nI k) (wc_ot a k) := by
  intro d
  induction d with
  | zero =>
    intro k hk
    have h : (16 : Int32) ≤ nI k := nI_le (a := 16) (by omega) (by omega)
    obtain rfl : k = 16 := by omega
    exact br_t h ⟨17, wc_x72 post (wc_ot a 16) 16 0 0 rfl hp⟩
  | succ d ih =>
    intro k hk
    have h : ¬ (16 : Int32) ≤ nI k := nI_ge (b := 16) (by omega) (by omega)
    exact br_f h ⟨17, wc_x10 post (wX_close_2 post (d + 1)) (by omega) 16 0 (wc_ot a k) rfl (wc_Sh_ot hs k) (ih (k + 1) (by omega))⟩
theorem wc_xclose (post : Int32 → SX → Prop) {a : Nat → Int32} (hs : wc_Sh a) (hp : post (wc_co (wc_ot a 16) 16 0 0) (wc_ot a 16)) : wpX_close post a := ⟨17, wc_x2 post hs hp 16 0 rfl⟩
end
section
/-! the reference's loop over t = 256 k + 16 i + j against the same picture -/
theorem wc_y73 (post : Int32 → SY → Prop) (J4 : Int32 → Int32 → (Nat → Int32) → Prop) (c : Int32) (t : Nat) {k i j : Nat} (hk : k < 16) (hi : i < 16) (hj : j < 16) (a : Nat → Int32) (h : J4 (if k = 15 then c + wc_bi (bt (a i) j) else c) (nI (t + 1)) a) : wY_close_73 post J4 c (nI t) (nI k) (nI i) (nI j) a := by
  have hI : vp_in (nI i) 16 := vp_in_nI hi (by omega)
  have ci : (nI i).toNatClampNeg = i := nI_clamp (by omega)
  by_cases e : k = 15
  · rw [if_pos e] at h
    have e1 : nI k = 15 := by rw [e]; rfl
    refine br_t e1 ⟨hI, nm_r (e' := c + wc_bi (bt (a i) j)) ?_ (nm_r (nI_1 t) h)⟩
    rw [ci, wc_yb _ hj]
  · rw [if_neg e] at h
    have e1 : ¬ nI k = 15 := fun z => e ((nI_eq (a := k) (b := 15) (by omega) (by omega)).mp z)
    exact br_f e1 (nm_r (nI_1 t) h)
theorem wc_k {k i j : Nat} (hk : k < 16) (hi : i < 16) (hj : j < 16) : nI (256 * k + 16 * i + j) >>> ((8 : Int32) &&& 31) = nI k := by
  rw [pk_shrN (by omega) _ 8 (by decide)]
  exact congrArg nI (by omega)
theorem wc_i {k i j : Nat} (hk : k < 16) (hi : i < 16) (hj : j < 16) : (nI (256 * k + 16 * i + j) >>> ((4 : Int32) &&& 31)) &&& 15 = nI i := by
  rw [pk_shrN (by omega) _ 4 (by decide), pk_andN (by omega) 4 (by decide)]
  exact congrArg nI (by omega)
theorem wc_j {k i j : Nat} (hk : k < 16) (hi : i < 16) (hj : j < 16) : nI (256 * k + 16 * i + j) &&& 15 = nI j := by
  rw [pk_andN (by omega) 4 (by decide)]
  exact congrArg nI (by omega)
theorem wc_y4 (post : Int32 → SY → Prop) {k i j : Nat} (hk : k < 16) (hi : i < 16) (hj : j < 16) (n : Nat) (c : Int32) (a : Nat → Int32) (h : wY_close_4 post n (if k = 15 then c + wc_bi (bt (wc_sj a k i j i) j) else c) (nI (256 * k + 16 * i + j + 1)) (wc_sj a k i j)) : wY_close_4 post (n + 1) c (nI (256 * k + 16 * i + j)) a := by
  have ht : ¬ (4096 : Int32) ≤ nI (256 * k + 16 * i + j) := nI_ge (b := 4096) (by omega) (by omega)
  have hI : vp_in (nI i) 16 := vp_in_nI hi (by omega)
  have hK : vp_in (nI k) 16 := vp_in_nI hk (by omega)
  have ci : (nI i).toNatClampNeg = i := nI_clamp (by omega)
  have ck : (nI k).toNatClampNeg = k := nI_clamp (by omega)
  refine br_f ht (nm_r (wc_k hk hi hj) (nm_r (wc_i hk hi hj) (nm_r (wc_j hk hi hj) ⟨hI, ?_⟩)))
  rw [ci, ck]
  cases hb : bt (a i) k with
  | false =>
    have e : wc_sj a k i j = a := if_neg (fun z => by rw [hb] at z; exact absurd z.1 (by decide))
    rw [e] at h
    exact br_t (wc_t0 (wc_yb (a i) hk) hb) (wc_y73 post _ c _ hk hi hj a h)
  | true =>
    refine br_f (wc_t1 (wc_yb (a i) hk) hb) ⟨hK, ?_⟩
    cases hc : bt (a k) j with
    | false =>
      have e : wc_sj a k i j = a := if_neg (fun z => by rw [hc] at z; exact absurd z.2 (by decide))
      rw [e] at h
      exact br_t (wc_t0 (wc_yb (a k) hj) hc) (wc_y73 post _ c _ hk hi hj a h)
    | true =>
      refine br_f (wc_t1 (wc_yb (a k) hj) hc) ⟨hI, hI, nm_r (e' := wc_sj a k i j) ?_ (wc_y73 post _ c _ hk hi hj _ h)⟩
      rw [pk_vs]
      exact (if_pos ⟨hb, hc⟩).symm
/-- the rest of a row -/
theorem wc_yrow (post : Int32 → SY → Prop) {k i : Nat} (hk : k < 16) (hi : i < 16) (n : Nat) {a : Nat → Int32} (hs : wc_Sh a) : ∀ (d j : Nat) (c : Int32) (a' : Nat → Int32), j + d = 16 → wc_Mid a k i j a' → wY_close_4 post n (if k = 15 then wc_ci (wc_st a k i i) d j c else c) (nI (256 * k + 16 * i + 16)) (wc_st a k i) → wY_close_4 post (n + d) c (nI (256 * k + 16 * i + j)) a' := by
  intro d
  induction d with
  | zero =>
    intro j c a' hj M h
    obtain rfl : j = 16 := by omega
    rw [← wc_mid16 hs M] at h
    have e : (if k = 15 then wc_ci (a' i) 0 16 c else c) = c := by
      by_cases e : k = 15
      · rw [if_pos e]; rfl
      · rw [if_neg e]
    rw [e] at h
    exact h
  | succ d ih =>
    intro j c a' hj M h
    obtain ⟨M', eb⟩ := wc_midS hk (by omega) M
    refine wc_y4 post hk hi (by omega) (n + d) c a' ?_
    rw [eb]
    refine ih (j + 1) _ _ (by omega) M' ?_
    by_cases e : k = 15
    · rw [if_pos e, if_pos e]
      rw [if_pos e] at h
      exact h
    · rw [if_neg e, if_neg e]
      rw [if_neg e] at h
      exact h
/-- the rest of a round -/
theorem wc_yround (post : Int32 → SY → Prop) {k : Nat} (hk : k < 16) (n : Nat) : ∀ (d i : Nat) (c : Int32) (a : Nat → Int32), i + d = 16 → wc_Sh a → wY_close_4 post n (if k = 15 then wc_co (wc_it k d i a) d i c else c) (nI (256 * (k + 1))) (wc_it k d i a) → wY_close_4 post (n + 16 * d) c (nI (256 * k + 16 * i)) a := by
  intro d
  induction d with
  | zero =>
    intro i c a hi hs h
    have e : (if k = 15 then wc_co (wc_it k 0 i a) 0 i c else c) = c := by
      by_cases e : k = 15
      · rw [if_pos e]; rfl
      · rw [if_neg e]
    have et : 256 * (k + 1) = 256 * k + 16 * i := by omega
    rw [e, et] at h
    exact h
  | succ d ih =>
    intro i c a hi hs h
    have q : wY_close_4 post (n + 16 * d) (if k = 15 then wc_ci (wc_st a k i i) 16 0 c else c) (nI (256 * k + 16 * (i + 1))) (wc_st a k i) := by
      refine ih (i + 1) _ _ (by omega) (wc_Sh_st hs k i) ?_
      have el : wc_it k d (i + 1) (wc_st a k i) i = wc_st a k i i := wc_it_lo k d (i + 1) i _ (by omega)
      by_cases e : k = 15
      · rw [if_pos e, if_pos e]
        rw [if_pos e] at h
        have h' : wY_close_4 post n (wc_co (wc_it k d (i + 1) (wc_st a k i)) d (i + 1) (wc_ci (wc_it k d (i + 1) (wc_st a k i) i) 16 0 c)) (nI (256 * (k + 1))) (wc_it k d (i + 1) (wc_st a k i)) := h
        rw [el] at h'
        exact h'
      · rw [if_neg e, if_neg e]
        rw [if_neg e] at h
        exact h
    have e1 : n + 16 * (d + 1) = n + 16 * d + 16 := by omega
    have e2 : 256 * k + 16 * (i + 1) = 256 * k + 16 * i + 16 := by omega
    rw [e2] at q
    rw [e1]
    exact wc_yrow post hk (by omega) (n + 16 * d) hs 16 0 c a rfl (wc_mid0 hs k i) q
/-- the rounds ahead of the last -/
theorem wc_yrounds (post : Int32 → SY → Prop) (n : Nat) (c : Int32) {a : Nat → Int32} (hs : wc_Sh a) (h : wY_close_4 post n c (nI (256 * 15)) (wc_ot a 15)) : ∀ (d k : Nat), k + d = 15 → wY_close_4 post (n + 256 * d) c (nI (256 * k)) (wc_ot a k) := by
  intro d
  induction d with
  | zero =>
    intro k hk
    obtain rfl : k = 15 := by omega
    exact h
  | succ d ih =>
    intro k hk
    have e1 : n + 256 * (d + 1) = n + 256 * d + 16 * 16 := by omega
    rw [e1]
    refine wc_yround post (k := k) (by omega) (n + 256 * d) 16 0 c (wc_ot a k) rfl (wc_Sh_ot hs k) ?_
    rw [if_neg (by omega)]
    exact ih (k + 1) (by omega)
theorem wc_yclose (post : Int32 → SY → Prop) {a : Nat → Int32} (hs : wc_Sh a) (hp : post (wc_co (wc_ot a 16) 16 0 0) (wc_ot a 16)) : wpY_close post a := by
  have e : wY_close_4 post 1 (wc_co (wc_ot a 16) 16 0 0) (nI (256 * (15 + 1))) (wc_ot a 16) := br_t (nI_le (a := 4096) (b := 4096) (by omega) (by omega)) hp
  have l : wY_close_4 post (1 + 16 * 16) 0 (nI (256 * 15 + 16 * 0)) (wc_ot a 15) := by
    refine wc_yround post (k := 15) (by omega) 1 16 0 0 (wc_ot a 15) rfl (wc_Sh_ot hs 15) ?_
    rw [if_pos rfl]
    exact e
  exact ⟨_, wc_yrounds post (1 + 16 * 16) 0 hs l 15 0 rfl⟩
end
section
/-- both objects hold the same sixteen rows, each a short -/
def i_Rel (_ : Nat) (u : SX) (v : SY) : Prop := u = v ∧ wc_Sh u
theorem i_up {k : Nat} {u : SX} {v : SY} (h : i_Rel k u v) : i_Rel (k + 3) u v := h
theorem i_vc0 : wpX_init (fun u => wpY_init (fun v => i_Rel 0 u v)) := ⟨rfl, fun _ => wc_sh0⟩
theorem wc_arg {x : Int32} (h0 : ¬ x < 0) (h15 : x ≤ 15) : ∃ j : Nat, j < 16 ∧ x = nI j := by
  obtain ⟨j, hj, e⟩ := nI_of2 (M := 15) (n := 15) (by decide) h0 h15
  exact ⟨j, by omega, e⟩
theorem i_vc_link {k : Nat} {u : SX} {v : SY} (I : i_Rel k u v) (hk : k + 3 ≤ 1536) (v1 : Int32) (v2 : Int32) : wpX_link (fun r u' => wpY_link (fun r' v' => r' = r ∧ i_Rel (k + 3) u' v') v v1 v2) u v1 v2 := by
  obtain ⟨rfl, hs⟩ := I
  by_cases h1 : v1 < 0
  · exact br_t h1 (br_t h1 ⟨rfl, rfl, hs⟩)
  by_cases h2 : 15 < v1
  · exact br_f h1 (br_t h2 (br_f h1 (br_t h2 ⟨rfl, rfl, hs⟩)))
  by_cases h3 : v2 < 0
  · exact br_f h1 (br_f h2 (br_t h3 (br_f h1 (br_f h2 (br_t h3 ⟨rfl, rfl, hs⟩)))))
  by_cases h4 : v2 ≤ 15
  · obtain ⟨i, hi, rfl⟩ := wc_arg h1 (Int32.not_lt.mp h2)
    obtain ⟨j, hj, rfl⟩ := wc_arg h3 h4
    have hI : vp_in (nI i) 16 := vp_in_nI hi (by omega)
    cases hb : bt (u (nI i).toNatClampNeg) j with
    | false =>
      refine br_f h1 (br_f h2 (br_f h3 (br_t h4 ⟨hI, nm_e (br_t (wc_t0 (wc_xb _ hj) hb) ⟨hI, nm_r (congrArg (upd u (nI i).toNatClampNeg) (wc_w1 _ _)) ?_⟩)⟩)))
      refine br_f h1 (br_f h2 (br_f h3 (br_t h4 ⟨hI, br_t (wc_t0 (wc_yb _ hj) hb) ⟨hI, hI, nm_e ⟨rfl, rfl, ?_⟩⟩⟩)))
      rw [pk_vs]
      exact wc_Sh_upd hs _ (wc_sh_s _)
    | true =>
      exact br_f h1 (br_f h2 (br_f h3 (br_t h4 ⟨hI, nm_e (br_f (wc_t1 (wc_xb _ hj) hb) (br_f h1 (br_f h2 (br_f h3 (br_t h4 ⟨hI, br_f (wc_t1 (wc_yb _ hj) hb) ⟨rfl, rfl, hs⟩⟩)))))⟩)))
  · exact br_f h1 (br_f h2 (br_f h3 (br_f h4 (br_f h1 (br_f h2 (br_f h3 (br_f h4 ⟨rfl, rfl, hs⟩)))))))
theorem i_vc_close {k : Nat} {u : SX} {v : SY} (I : i_Rel k u v) (hk : k + 3 ≤ 1536) : wpX_close (fun r u' => wpY_close (fun r' v' => r' = r ∧ i_Rel (k + 3) u' v') v) u := by
  obtain ⟨rfl, hs⟩ := I
  exact wc_xclose _ hs (wc_yclose _ hs ⟨rfl, rfl, wc_Sh_ot hs 16⟩)
theorem i_vc_reaches {k : Nat} {u : SX} {v : SY} (I : i_Rel k u v) (hk : k + 3 ≤ 1536) (v1 : Int32) (v2 : Int32) : wpX_reaches (fun r => wpY_reaches (fun r' => r' = r ∧ i_Rel (k + 3) u v) v v1 v2) u v1 v2 := by
  obtain ⟨rfl, hs⟩ := I
  by_cases h1 : v1 < 0
  · exact br_t h1 (br_t h1 ⟨rfl, rfl, hs⟩)
  by_cases h2 : 15 < v1
  · exact br_f h1 (br_t h2 (br_f h1 (br_t h2 ⟨rfl, rfl, hs⟩)))
  by_cases h3 : v2 < 0
  · exact br_f h1 (br_f h2 (br_t h3 (br_f h1 (br_f h2 (br_t h3 ⟨rfl, rfl, hs⟩)))))
  by_cases h4 : v2 ≤ 15
  · obtain ⟨i, hi, rfl⟩ := wc_arg h1 (Int32.not_lt.mp h2)
    obtain ⟨j, hj, rfl⟩ := wc_arg h3 h4
    have hI : vp_in (nI i) 16 := vp_in_nI hi (by omega)
    exact br_f h1 (br_f h2 (br_f h3 (br_t h4 ⟨hI, br_f h1 (br_f h2 (br_f h3 (br_t h4 ⟨hI, (wc_yb _ hj).trans (wc_xb _ hj).symm, rfl, hs⟩)))⟩)))
  · exact br_f h1 (br_f h2 (br_f h3 (br_f h4 (br_f h1 (br_f h2 (br_f h3 (br_f h4 ⟨rfl, rfl, hs⟩)))))))
theorem i_vc_row {k : Nat} {u : SX} {v : SY} (I : i_Rel k u v) (hk : k + 3 ≤ 1536) (v1 : Int32) : wpX_row (fun r => wpY_row (fun r' => r' = r ∧ i_Rel (k + 3) u v) v v1) u v1 := by
  obtain ⟨rfl, hs⟩ := I
  by_cases h1 : v1 < 0
  · exact br_t h1 (br_t h1 ⟨rfl, rfl, hs⟩)
  by_cases h4 : v1 ≤ 15
  · obtain ⟨i, hi, rfl⟩ := wc_arg h1 h4
    have hI : vp_in (nI i) 16 := vp_in_nI hi (by omega)
    exact br_f h1 (br_t h4 ⟨hI, br_f h1 (br_t h4 ⟨hI, rfl, rfl, hs⟩)⟩)
  · exact br_f h1 (br_f h4 (br_f h1 (br_f h4 ⟨rfl, rfl, hs⟩)))
end
