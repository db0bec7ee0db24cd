section
/-! rows pasted from kit/rows (PURE-ROWS, BITS) -/
theorem pk_uLs {f : Nat → Int64} {k : Nat} {x : Int64} : vp_updL f k x k = x := if_pos rfl
theorem pk_uLn {f : Nat → Int64} {k j : Nat} {x : Int64} (h : j ≠ k) : vp_updL f k x j = f j := if_neg h
theorem pk_tn {n : Nat} (h : n < 2 ^ 32) : (nI n).toBitVec.toNat = n := Nat.mod_eq_of_lt h
theorem pk_and (x : Int32) {m : Int32} (k : Nat) (hm : m.toBitVec.toNat = 2 ^ k - 1) : x &&& m = nI (x.toBitVec.toNat % 2 ^ k) := by
  apply Int32.toBitVec_inj.mp
  apply BitVec.eq_of_toNat_eq
  rw [Int32.toBitVec_and, BitVec.toNat_and, hm, Nat.and_two_pow_sub_one_eq_mod]
  show _ = (BitVec.ofNat 32 _).toNat
  rw [BitVec.toNat_ofNat]
  exact (Nat.mod_eq_of_lt (Nat.lt_of_le_of_lt (Nat.mod_le _ _) x.toBitVec.isLt)).symm
theorem pk_andN {n : Nat} (h : n < 2 ^ 32) {m : Int32} (k : Nat) (hm : m.toBitVec.toNat = 2 ^ k - 1) : nI n &&& m = nI (n % 2 ^ k) := by
  rw [pk_and _ k hm, pk_tn h]
theorem pk_andE (x : Int32) {m : Int32} (k : Nat) (hm : m.toBitVec.toNat = 2 ^ k - 1) : ∃ j : Nat, j < 2 ^ k ∧ x &&& m = nI j := ⟨_, Nat.mod_lt _ (Nat.two_pow_pos k), pk_and x k hm⟩
theorem wb_tb (n : Nat) : (lN n).toBitVec = BitVec.ofNat 64 n := rfl
theorem wb_inj {a b : Int64} (h : a.toBitVec = b.toBitVec) : a = b := Int64.toBitVec_inj.mp h
theorem wb_tn {n : Nat} (h : n < 2 ^ 64) : (lN n).toBitVec.toNat = n := by rw [wb_tb, BitVec.toNat_ofNat, Nat.mod_eq_of_lt h]
theorem wb_c : ∀ k, k < 64 → ((nI k).toInt64 &&& 63) = lN k := by decide +kernel
theorem wb_cu : ∀ k, k < 64 → ((nI k).toInt64.toUInt64 &&& Int64.toUInt64 63) = UInt64.ofNat k := by decide +kernel
theorem wb_sm : ∀ k, k < 64 → (BitVec.ofNat 64 k).smod 64 = BitVec.ofNat 64 k := by decide +kernel
theorem wb_lt2 {a b : Nat} (h : a < b) : 2 ^ a < 2 ^ b := Nat.pow_lt_pow_right (by decide) h
theorem wb_shr {n k : Nat} (hn : n < 2 ^ 64) (hk : k < 64) : ((lN n).toUInt64 >>> ((nI k).toInt64.toUInt64 &&& Int64.toUInt64 63)).toInt64 = lN (n / 2 ^ k) := by
  rw [wb_cu k hk]
  apply wb_inj
  apply BitVec.eq_of_toNat_eq
  show ((lN n).toUInt64 >>> UInt64.ofNat k).toNat = (BitVec.ofNat 64 _).toNat
  have h1 : (UInt64.ofNat k).toNat = k := by
    show (BitVec.ofNat 64 k).toNat = k
    rw [BitVec.toNat_ofNat, Nat.mod_eq_of_lt (by omega)]
  have h2 : (lN n).toUInt64.toNat = n := wb_tn hn
  rw [UInt64.toNat_shiftRight, h1, h2, Nat.mod_eq_of_lt hk, Nat.shiftRight_eq_div_pow, BitVec.toNat_ofNat, Nat.mod_eq_of_lt (Nat.lt_of_le_of_lt (Nat.div_le_self _ _) hn)]
theorem wb_shl (n : Nat) {k : Nat} (hk : k < 64) : lN n <<< ((nI k).toInt64 &&& 63) = lN (n * 2 ^ k) := by
  rw [wb_c k hk]
  apply wb_inj
  rw [Int64.toBitVec_shiftLeft, wb_tb, wb_tb, wb_tb, wb_sm k hk]
  apply BitVec.eq_of_toNat_eq
  rw [BitVec.shiftLeft_eq', BitVec.toNat_shiftLeft, BitVec.toNat_ofNat, BitVec.toNat_ofNat, BitVec.toNat_ofNat, Nat.mod_eq_of_lt (show k < 2 ^ 64 by omega), Nat.shiftLeft_eq, Nat.mul_mod, Nat.mod_mod, ← Nat.mul_mod]
theorem wb_and {a b : Nat} (ha : a < 2 ^ 64) (hb : b < 2 ^ 64) : lN a &&& lN b = lN (a &&& b) := by
  apply wb_inj
  rw [Int64.toBitVec_and, wb_tb, wb_tb, wb_tb]
  apply BitVec.eq_of_toNat_eq
  rw [BitVec.toNat_and, BitVec.toNat_ofNat, BitVec.toNat_ofNat, BitVec.toNat_ofNat, Nat.mod_eq_of_lt ha, Nat.mod_eq_of_lt hb, Nat.mod_eq_of_lt (Nat.and_lt_two_pow _ hb)]
theorem wb_mask {n k : Nat} (hn : n < 2 ^ 64) (hk : k < 64) : lN n &&& lN (2 ^ k - 1) = lN (n % 2 ^ k) := by
  rw [wb_and hn (by have := wb_lt2 hk; omega), Nat.and_two_pow_sub_one_eq_mod]
theorem u_tn {n : Nat} (h : n < 2 ^ 64) : (UInt64.ofNat n).toNat = n := Nat.mod_eq_of_lt h
theorem g_or {k p a b : Nat} (hp : 2 ^ k = p) (ha : a < p) (h : b * p + a < 2 ^ 64) : lN (b * p) ||| lN a = lN (b * p + a) := by
  subst hp
  have h1 : b * 2 ^ k ||| a = b * 2 ^ k + a := by rw [← Nat.shiftLeft_eq, Nat.shiftLeft_add_eq_or_of_lt ha]
  have h3 : UInt64.ofNat (b * 2 ^ k) ||| UInt64.ofNat a = UInt64.ofNat (b * 2 ^ k + a) := UInt64.toNat_inj.mp (by rw [UInt64.toNat_or, u_tn (by omega), u_tn (by omega), u_tn h, h1])
  have h2 := congrArg UInt64.toInt64 h3
  exact h2
theorem lN_bv (n : Nat) : (lN n).toBitVec = BitVec.ofNat 64 n := rfl
theorem lN_nat {n : Nat} (h : n < 2 ^ 64) : (lN n).toBitVec.toNat = n := by rw [lN_bv, BitVec.toNat_ofNat]; exact Nat.mod_eq_of_lt h
theorem lN_ti {m : Nat} (h : m < 2 ^ 64) : (lN m).toInt = if m < 2 ^ 63 then (m : Int) else (m : Int) - 2 ^ 64 := by
  have c := BitVec.toInt_eq_toNat_cond (lN m).toBitVec
  rw [lN_nat h] at c
  show (lN m).toBitVec.toInt = _
  rw [c]
  split <;> split <;> omega
end
section
/-! ===== entries as both sides read and write them ===== -/
/-- X's key of an entry -/
def fw_xk (e : Int64) : Int32 := (((e.toUInt64 >>> ((31 : Int32).toInt64.toUInt64 &&& Int64.toUInt64 63)).toInt64) &&& 2147483647).toInt32
/-- X's value of an entry -/
def fw_xv (e : Int64) : Int32 := (e &&& 2147483647).toInt32
/-- Y's key of an entry -/
def fw_yk (e : Int64) : Int32 := ((e.toUInt64 >>> ((32 : Int32).toInt64.toUInt64 &&& Int64.toUInt64 63)).toInt64).toInt32
/-- Y's value of an entry -/
def fw_yv (e : Int64) : Int32 := e.toInt32
/-- what X stores -/
def fw_ex (p q : Int32) : Int64 := ((-9223372036854775808) ||| (p.toInt64 <<< ((31 : Int32).toInt64 &&& 63))) ||| q.toInt64
/-- what Y stores -/
def fw_ey (p q : Int32) : Int64 := (p.toInt64 <<< ((32 : Int32).toInt64 &&& 63)) ||| q.toInt64
/-- the first slot that X probes -/
def fw_st (p : Int32) : Int32 := (((p * (-1640531535)).toUInt32 >>> ((29 : Int32).toUInt32 &&& Int32.toUInt32 31)).toInt32) &&& 7
def fw_h (p : Int32) : Nat := (fw_st p).toNatClampNeg
theorem fw_stE (p : Int32) : ∃ j : Nat, j < 8 ∧ fw_st p = nI j := pk_andE _ 3 (by decide)
theorem fw_hl (p : Int32) : fw_h p < 8 := by
  obtain ⟨j, hj, e⟩ := fw_stE p
  unfold fw_h
  rw [e, nI_clamp (by omega)]
  exact hj
theorem fw_sth (p : Int32) : fw_st p = nI (fw_h p) := by
  obtain ⟨j, hj, e⟩ := fw_stE p
  unfold fw_h
  rw [e, nI_clamp (by omega)]
/-- the slot of the i-th probe for key f -/
def fw_sl (f : Int32) (i : Nat) : Nat := (fw_h f + i) % 8
theorem fw_sll (f : Int32) (i : Nat) : fw_sl f i < 8 := Nat.mod_lt _ (by decide)
theorem fw_ix (f : Int32) {i : Nat} (hi : i < 8) : (nI (fw_h f) + nI i) &&& 7 = nI (fw_sl f i) := by
  have h := fw_hl f
  rw [nI_add, pk_andN (by omega) 3 (by decide)]
  rfl
/-- the eight probes reach every slot -/
theorem fw_cov (f : Int32) {s : Nat} (hs : s < 8) : ∃ i, i < 8 ∧ fw_sl f i = s := by
  have h := fw_hl f
  refine ⟨(s + 8 - fw_h f) % 8, by omega, ?_⟩
  unfold fw_sl
  omega
theorem fw_31 : (31 : Int32) = nI 31 := rfl
theorem fw_32 : (32 : Int32) = nI 32 := rfl
theorem fw_top : (-9223372036854775808 : Int64) = lN (1 * 9223372036854775808) := by decide +kernel
theorem fw_msk : (2147483647 : Int64) = lN (2 ^ 31 - 1) := by decide +kernel
theorem fw_exE {p q : Nat} (hp : p < 2 ^ 31) (hq : q < 2 ^ 31) : fw_ex (nI p) (nI q) = lN ((4294967296 + p) * 2147483648 + q) := by
  have e1 : lN (1 * 9223372036854775808) ||| lN (p * 2147483648) = lN (1 * 9223372036854775808 + p * 2147483648) := g_or (k := 63) (by decide) (by omega) (by omega)
  have e2 : 1 * 9223372036854775808 + p * 2147483648 = (4294967296 + p) * 2147483648 := by omega
  have e3 : lN ((4294967296 + p) * 2147483648) ||| lN q = lN ((4294967296 + p) * 2147483648 + q) := g_or (k := 31) (by decide) (by omega) (by omega)
  have e4 : lN p <<< ((nI 31).toInt64 &&& 63) = lN (p * 2147483648) := wb_shl p (by decide)
  unfold fw_ex
  rw [nI_l hp, nI_l hq, fw_31, e4, fw_top, e1, e2, e3]
theorem fw_eyE {p q : Nat} (hp : p < 2 ^ 31) (hq : q < 2 ^ 31) : fw_ey (nI p) (nI q) = lN (p * 4294967296 + q) := by
  have e3 : lN (p * 4294967296) ||| lN q = lN (p * 4294967296 + q) := g_or (k := 32) (by decide) (by omega) (by omega)
  have e4 : lN p <<< ((nI 32).toInt64 &&& 63) = lN (p * 4294967296) := wb_shl p (by decide)
  unfold fw_ey
  rw [nI_l hp, nI_l hq, fw_32, e4, e3]
theorem fw_exn {f t : Int32} (hf : ¬ f < 0) (ht : ¬ t < 0) : fw_ex f t < 0 := by
  obtain ⟨p, hp, rfl⟩ := nI_of hf
  obtain ⟨q, hq, rfl⟩ := nI_of ht
  rw [fw_exE hp hq, Int64.lt_iff_toInt_lt, lN_ti (by omega), if_neg (by omega), show (0 : Int64).toInt = 0 from by decide]
  omega
theorem fw_exk {f t : Int32} (hf : ¬ f < 0) (ht : ¬ t < 0) : fw_xk (fw_ex f t) = f := by
  obtain ⟨p, hp, rfl⟩ := nI_of hf
  obtain ⟨q, hq, rfl⟩ := nI_of ht
  have e : ((4294967296 + p) * 2147483648 + q) / 2 ^ 31 % 2 ^ 31 = p := by omega
  unfold fw_xk
  rw [fw_exE hp hq, fw_31, wb_shr (by omega) (by decide), fw_msk, wb_mask (by omega) (by decide), e, lN_i]
theorem fw_exv {f t : Int32} (hf : ¬ f < 0) (ht : ¬ t < 0) : fw_xv (fw_ex f t) = t := by
  obtain ⟨p, hp, rfl⟩ := nI_of hf
  obtain ⟨q, hq, rfl⟩ := nI_of ht
  have e : ((4294967296 + p) * 2147483648 + q) % 2 ^ 31 = q := by omega
  unfold fw_xv
  rw [fw_exE hp hq, fw_msk, wb_mask (by omega) (by decide), e, lN_i]
theorem fw_eyk {f t : Int32} (hf : ¬ f < 0) (ht : ¬ t < 0) : fw_yk (fw_ey f t) = f := by
  obtain ⟨p, hp, rfl⟩ := nI_of hf
  obtain ⟨q, hq, rfl⟩ := nI_of ht
  have e : (p * 4294967296 + q) / 2 ^ 32 = p := by omega
  unfold fw_yk
  rw [fw_eyE hp hq, fw_32, wb_shr (by omega) (by decide), e, lN_i]
theorem fw_nt (n : Nat) : (nI n).toBitVec.toNat = n % 2 ^ 32 := by
  show (BitVec.ofNat 32 n).toNat = _
  rw [BitVec.toNat_ofNat]
theorem fw_eyv {f t : Int32} (hf : ¬ f < 0) (ht : ¬ t < 0) : fw_yv (fw_ey f t) = t := by
  obtain ⟨p, hp, rfl⟩ := nI_of hf
  obtain ⟨q, hq, rfl⟩ := nI_of ht
  unfold fw_yv
  rw [fw_eyE hp hq, lN_i]
  apply Int32.toBitVec_inj.mp
  apply BitVec.eq_of_toNat_eq
  rw [fw_nt, fw_nt]
  omega
/-! ===== how many slots are taken ===== -/
def fw_b (x : Int64) : Nat := if x < 0 then 1 else 0
def fw_cn (a : Nat → Int64) : Nat := fw_b (a 0) + fw_b (a 1) + fw_b (a 2) + fw_b (a 3) + fw_b (a 4) + fw_b (a 5) + fw_b (a 6) + fw_b (a 7)
theorem fw_b1 {x : Int64} (h : x < 0) : fw_b x = 1 := if_pos h
theorem fw_b0 {x : Int64} (h : ¬ x < 0) : fw_b x = 0 := if_neg h
theorem fw_bl (x : Int64) : fw_b x ≤ 1 := by
  unfold fw_b
  split <;> omega
theorem fw_full {a : Nat → Int64} (h : ∀ s, s < 8 → a s < 0) : fw_cn a = 8 := by
  unfold fw_cn
  rw [fw_b1 (h 0 (by omega)), fw_b1 (h 1 (by omega)), fw_b1 (h 2 (by omega)), fw_b1 (h 3 (by omega)), fw_b1 (h 4 (by omega)), fw_b1 (h 5 (by omega)), fw_b1 (h 6 (by omega)), fw_b1 (h 7 (by omega))]
theorem fw_cs {s : Nat} (h : s < 8) : s = 0 ∨ s = 1 ∨ s = 2 ∨ s = 3 ∨ s = 4 ∨ s = 5 ∨ s = 6 ∨ s = 7 := by omega
theorem fw_free {a : Nat → Int64} {s : Nat} (hs : s < 8) (h : ¬ a s < 0) : fw_cn a < 8 := by
  have h0 := fw_bl (a 0)
  have h1 := fw_bl (a 1)
  have h2 := fw_bl (a 2)
  have h3 := fw_bl (a 3)
  have h4 := fw_bl (a 4)
  have h5 := fw_bl (a 5)
  have h6 := fw_bl (a 6)
  have h7 := fw_bl (a 7)
  have hz := fw_b0 h
  unfold fw_cn
  rcases fw_cs hs with rfl | rfl | rfl | rfl | rfl | rfl | rfl | rfl <;> omega
theorem fw_bu {a : Nat → Int64} {s : Nat} {x : Int64} (hx : x < 0) (h : ¬ a s < 0) (j : Nat) : fw_b (vp_updL a s x j) = fw_b (a j) + (if j = s then 1 else 0) := by
  by_cases e : j = s
  · subst e
    rw [pk_uLs, fw_b1 hx, fw_b0 h, if_pos rfl]
  · rw [pk_uLn e, if_neg e]
    rfl
theorem fw_up {a : Nat → Int64} {s : Nat} {x : Int64} (hs : s < 8) (hx : x < 0) (h : ¬ a s < 0) : fw_cn (vp_updL a s x) = fw_cn a + 1 := by
  unfold fw_cn
  simp only [fw_bu hx h]
  rcases fw_cs hs with rfl | rfl | rfl | rfl | rfl | rfl | rfl | rfl <;> simp <;> omega
end
section
/-! ===== X's probes ===== -/
theorem fw_fs {post : Int32 → Prop} {f c : Int32} {a : Nat → Int64} {n i : Nat} (hi : i < 8) (h1 : a (fw_sl f i) < 0 → fw_xk (a (fw_sl f i)) = f → post (fw_xv (a (fw_sl f i)))) (h2 : a (fw_sl f i) < 0 → ¬ fw_xk (a (fw_sl f i)) = f → wX_find_19 post f (nI (fw_h f)) c a n (nI (i + 1))) (h3 : ¬ a (fw_sl f i) < 0 → post (-1)) : wX_find_19 post f (nI (fw_h f)) c a (n + 1) (nI i) := by
  have hs := fw_sll f i
  have hc : a (nI (fw_sl f i)).toNatClampNeg = a (fw_sl f i) := congrArg a (nI_clamp (by omega))
  refine br_f (nI_ge (b := 8) hi (by decide)) (nm_r (fw_ix f hi) ⟨vp_in_nI hs (by decide), nm_r hc ?_⟩)
  exact br_c (fun z => nm_e (br_c (fun w => h1 z w) (fun w => nm_r (nI_1 i) (h2 z w)))) h3
theorem fw_fhit {post : Int32 → Prop} {f c r : Int32} {a : Nat → Int64} {d : Nat} (hd : d < 8) (hp : post r) (ho : ∀ i, i ≤ d → a (fw_sl f i) < 0) (hk : fw_xk (a (fw_sl f d)) = f) (hv : ∀ i, i ≤ d → fw_xk (a (fw_sl f i)) = f → fw_xv (a (fw_sl f i)) = r) : ∀ m i, i + m = d → wX_find_19 post f (nI (fw_h f)) c a (m + 1) (nI i) := by
  intro m
  induction m with
  | zero =>
    intro i e
    have e' : i = d := e
    subst e'
    exact fw_fs hd (fun _ w => by rw [hv i (Nat.le_refl _) w]; exact hp) (fun _ w => absurd hk w) (fun z => absurd (ho i (Nat.le_refl _)) z)
  | succ m ih =>
    intro i e
    exact fw_fs (by omega) (fun _ w => by rw [hv i (by omega) w]; exact hp) (fun _ _ => ih (i + 1) (by omega)) (fun z => absurd (ho i (by omega)) z)
theorem fw_fmiss {post : Int32 → Prop} {f c : Int32} {a : Nat → Int64} (hp : post (-1)) (ha : ∀ s, s < 8 → a s < 0 → ¬ fw_xk (a s) = f) : ∀ m i, i + m = 8 → wX_find_19 post f (nI (fw_h f)) c a (m + 1) (nI i) := by
  intro m
  induction m with
  | zero =>
    intro i e
    exact br_t (nI_le (a := 8) (by omega) (by omega)) hp
  | succ m ih =>
    intro i e
    exact fw_fs (by omega) (fun z w => absurd w (ha _ (fw_sll f i) z)) (fun _ _ => ih (i + 1) (by omega)) (fun _ => hp)
theorem fw_is {post : Int32 → SX → Prop} {f t y c : Int32} {a : Nat → Int64} {n i : Nat} (hi : i < 8) (h1 : a (fw_sl f i) < 0 → fw_xk (a (fw_sl f i)) = f → post (fw_xv (a (fw_sl f i))) (c, a)) (h2 : a (fw_sl f i) < 0 → ¬ fw_xk (a (fw_sl f i)) = f → wX_insert_28 post f t (nI (fw_h f)) y c a n (nI (i + 1))) (h3 : ¬ a (fw_sl f i) < 0 → wX_insert_99 post f t (nI (fw_sl f i)) c a) : wX_insert_28 post f t (nI (fw_h f)) y c a (n + 1) (nI i) := by
  have hs := fw_sll f i
  have hc : a (nI (fw_sl f i)).toNatClampNeg = a (fw_sl f i) := congrArg a (nI_clamp (by omega))
  refine br_f (nI_ge (b := 8) hi (by decide)) (nm_r (fw_ix f hi) ⟨vp_in_nI hs (by decide), nm_r hc ?_⟩)
  exact br_c (fun z => nm_e (br_c (fun w => h1 z w) (fun w => nm_r (nI_1 i) (h2 z w)))) h3
theorem fw_ihit {post : Int32 → SX → Prop} {f t y c r : Int32} {a : Nat → Int64} {d : Nat} (hd : d < 8) (hp : post r (c, a)) (ho : ∀ i, i ≤ d → a (fw_sl f i) < 0) (hk : fw_xk (a (fw_sl f d)) = f) (hv : ∀ i, i ≤ d → fw_xk (a (fw_sl f i)) = f → fw_xv (a (fw_sl f i)) = r) : ∀ m i, i + m = d → wX_insert_28 post f t (nI (fw_h f)) y c a (m + 1) (nI i) := by
  intro m
  induction m with
  | zero =>
    intro i e
    have e' : i = d := e
    subst e'
    exact fw_is hd (fun _ w => by rw [hv i (Nat.le_refl _) w]; exact hp) (fun _ w => absurd hk w) (fun z => absurd (ho i (Nat.le_refl _)) z)
  | succ m ih =>
    intro i e
    exact fw_is (by omega) (fun _ w => by rw [hv i (by omega) w]; exact hp) (fun _ _ => ih (i + 1) (by omega)) (fun z => absurd (ho i (by omega)) z)
theorem fw_imiss {post : Int32 → SX → Prop} {f t y c : Int32} {a : Nat → Int64} (ha : ∀ s, s < 8 → a s < 0 → ¬ fw_xk (a s) = f) (hfree : ∀ i, i < 8 → (∀ i', i' < i → a (fw_sl f i') < 0) → ¬ a (fw_sl f i) < 0 → wX_insert_99 post f t (nI (fw_sl f i)) c a) (hfull : (∀ i, i < 8 → a (fw_sl f i) < 0) → wX_insert_99 post f t y c a) : ∀ m i, i + m = 8 → (∀ i', i' < i → a (fw_sl f i') < 0) → wX_insert_28 post f t (nI (fw_h f)) y c a (m + 1) (nI i) := by
  intro m
  induction m with
  | zero =>
    intro i e ho
    have e' : i = 8 := e
    subst e'
    exact br_t (nI_le (a := 8) (by omega) (by omega)) (hfull ho)
  | succ m ih =>
    intro i e ho
    exact fw_is (by omega) (fun z w => absurd w (ha _ (fw_sll f i) z)) (fun z _ => ih (i + 1) (by omega) (lt_s ho z)) (fun z => hfree i (by omega) ho z)
/-! ===== Y's scan ===== -/
theorem fw_ys {post : Int32 → Prop} {f : Int32} {b : Nat → Int64} {n k j : Nat} (hn : n ≤ 8) (hj : j < n) (h1 : fw_yk (b j) = f → post (nI j)) (h2 : ¬ fw_yk (b j) = f → wY_at_2 post f (nI n) b k (nI (j + 1))) : wY_at_2 post f (nI n) b (k + 1) (nI j) := by
  have e : fw_yk (b j) = fw_yk (b (nI j).toNatClampNeg) := congrArg (fun s => fw_yk (b s)) (nI_clamp (by omega)).symm
  exact br_f (nI_ge hj (by omega)) ⟨vp_in_nI (by omega) (by decide), br_c (fun z => h1 (e.trans z)) (fun z => nm_r (nI_1 j) (h2 (fun w => z (e.symm.trans w))))⟩
theorem fw_yhit {post : Int32 → Prop} {f : Int32} {b : Nat → Int64} {n j : Nat} (hn : n ≤ 8) (hj : j < n) (hp : post (nI j)) (hk : fw_yk (b j) = f) (hu : ∀ i, i < n → fw_yk (b i) = f → i = j) : ∀ m i, i + m = j → wY_at_2 post f (nI n) b (m + 1) (nI i) := by
  intro m
  induction m with
  | zero =>
    intro i e
    have e' : i = j := e
    subst e'
    exact fw_ys hn hj (fun _ => hp) (fun z => absurd hk z)
  | succ m ih =>
    intro i e
    exact fw_ys hn (by omega) (fun z => by have := hu i (by omega) z; omega) (fun _ => ih (i + 1) (by omega))
theorem fw_ymiss {post : Int32 → Prop} {f : Int32} {b : Nat → Int64} {n : Nat} (hn : n ≤ 8) (hp : post (-1)) (hu : ∀ i, i < n → ¬ fw_yk (b i) = f) : ∀ m i, i + m = n → wY_at_2 post f (nI n) b (m + 1) (nI i) := by
  intro m
  induction m with
  | zero =>
    intro i e
    exact br_t (nI_le (by omega) (by omega)) hp
  | succ m ih =>
    intro i e
    exact fw_ys hn (by omega) (fun z => absurd z (hu i (by omega))) (fun _ => ih (i + 1) (by omega))
/-! ===== Y's methods ===== -/
theorem fw_m1 : ¬ (0 : Int32) ≤ -1 := by decide
theorem fw_m1l : (-1 : Int32) < 0 := by decide
theorem fw_yFhit {post : Int32 → Prop} {f : Int32} {b : Nat → Int64} {n j : Nat} (hn : n ≤ 8) (hj : j < n) (hp : post (fw_yv (b j))) (hk : fw_yk (b j) = f) (hu : ∀ i, i < n → fw_yk (b i) = f → i = j) : wpY_find post (nI n, b) f := by
  have e : fw_yv (b (nI j).toNatClampNeg) = fw_yv (b j) := congrArg (fun s => fw_yv (b s)) (nI_clamp (by omega))
  have hq : post (fw_yv (b (nI j).toNatClampNeg)) := by rw [e]; exact hp
  unfold wpY_find wpY_at
  dsimp only
  refine ⟨j + 1, fw_yhit hn hj ?_ hk hu j 0 (by omega)⟩
  exact br_t (nI_pos' (by omega)) ⟨vp_in_nI (by omega) (by decide), hq⟩
theorem fw_yFmiss {post : Int32 → Prop} {f : Int32} {b : Nat → Int64} {n : Nat} (hn : n ≤ 8) (hp : post (-1)) (hu : ∀ i, i < n → ¬ fw_yk (b i) = f) : wpY_find post (nI n, b) f := by
  unfold wpY_find wpY_at
  dsimp only
  refine ⟨n + 1, fw_ymiss hn ?_ hu n 0 (by omega)⟩
  exact br_f fw_m1 hp
theorem fw_yIhit {post : Int32 → SY → Prop} {f t : Int32} {b : Nat → Int64} {n j : Nat} (hf : ¬ f < 0) (ht : 0 ≤ t) (hn : n ≤ 8) (hj : j < n) (hp : post (fw_yv (b j)) (nI n, b)) (hk : fw_yk (b j) = f) (hu : ∀ i, i < n → fw_yk (b i) = f → i = j) : wpY_insert post (nI n, b) f t := by
  have e : fw_yv (b (nI j).toNatClampNeg) = fw_yv (b j) := congrArg (fun s => fw_yv (b s)) (nI_clamp (by omega))
  have hq : post (fw_yv (b (nI j).toNatClampNeg)) (nI n, b) := by rw [e]; exact hp
  unfold wpY_insert wpY_at
  dsimp only
  refine br_f hf (br_t ht ⟨j + 1, fw_yhit hn hj ?_ hk hu j 0 (by omega)⟩)
  exact br_f (nI_pos (by omega)) ⟨vp_in_nI (by omega) (by decide), hq⟩
theorem fw_yIfull {post : Int32 → SY → Prop} {f t : Int32} {b : Nat → Int64} {n : Nat} (hf : ¬ f < 0) (ht : 0 ≤ t) (hn : n = 8) (hp : post (-1) (nI n, b)) (hu : ∀ i, i < n → ¬ fw_yk (b i) = f) : wpY_insert post (nI n, b) f t := by
  unfold wpY_insert wpY_at
  dsimp only
  refine br_f hf (br_t ht ⟨n + 1, fw_ymiss (by omega) ?_ hu n 0 (by omega)⟩)
  exact br_t fw_m1l (br_t (congrArg nI hn) hp)
theorem fw_yInew {post : Int32 → SY → Prop} {f t : Int32} {b : Nat → Int64} {n : Nat} (hf : ¬ f < 0) (ht : 0 ≤ t) (hn : n < 8) (hp : post t (nI (n + 1), vp_updL b n (fw_ey f t))) (hu : ∀ i, i < n → ¬ fw_yk (b i) = f) : wpY_insert post (nI n, b) f t := by
  have e8 : ¬ nI n = 8 := fun z => by have := (nI_eq (b := 8) (by omega) (by decide)).mp z; omega
  have ec : vp_updL b (nI n).toNatClampNeg (fw_ey f t) = vp_updL b n (fw_ey f t) := by rw [nI_clamp (by omega)]
  have ev : fw_yv (fw_ey f t) = t := fw_eyv hf (Int32.not_lt.mpr ht)
  have hq : post (fw_yv (fw_ey f t)) (nI (n + 1), vp_updL b n (fw_ey f t)) := by rw [ev]; exact hp
  unfold wpY_insert wpY_at
  dsimp only
  refine br_f hf (br_t ht ⟨n + 1, fw_ymiss (by omega) ?_ hu n 0 (by omega)⟩)
  exact br_t fw_m1l (br_f e8 (nm_r (nI_1 n) ⟨vp_in_nI hn (by decide), nm_r ec hq⟩))
end
section
/-! ===== the relation: X's table holds Y's n entries, each reached by probes over taken slots ===== -/
/-- a: X's slots, b: Y's entries, n: how many -/
def fw_R (n : Nat) (a b : Nat → Int64) : Prop :=
  n ≤ 8 ∧ fw_cn a = n
  ∧ (∀ j, j < n → ¬ fw_yk (b j) < 0)
  ∧ (∀ j, j < n → ∃ d, d < 8 ∧ (∀ i, i ≤ d → a (fw_sl (fw_yk (b j)) i) < 0) ∧ fw_xk (a (fw_sl (fw_yk (b j)) d)) = fw_yk (b j))
  ∧ (∀ s, s < 8 → a s < 0 → ∃ j, j < n ∧ fw_yk (b j) = fw_xk (a s) ∧ fw_yv (b j) = fw_xv (a s))
  ∧ (∀ i j, i < n → j < n → fw_yk (b i) = fw_yk (b j) → i = j)
theorem fw_R0 : fw_R 0 (fun _ => 0) (fun _ => 0) := by
  have z : ¬ (0 : Int64) < 0 := by decide
  refine ⟨by omega, ?_, fun j h => absurd h (by omega), fun j h => absurd h (by omega), fun s _ h => absurd h z, fun i j h => absurd h (by omega)⟩
  unfold fw_cn
  rw [fw_b0 z]
/-- a key that is there: X's probes meet it, and only with Y's value -/
theorem fw_Rhit {n : Nat} {a b : Nat → Int64} (R : fw_R n a b) {j : Nat} (hj : j < n) {f : Int32} (hk : fw_yk (b j) = f) : ∃ d, d < 8 ∧ (∀ i, i ≤ d → a (fw_sl f i) < 0) ∧ fw_xk (a (fw_sl f d)) = f ∧ (∀ i, i ≤ d → fw_xk (a (fw_sl f i)) = f → fw_xv (a (fw_sl f i)) = fw_yv (b j)) := by
  obtain ⟨_, _, _, RA, RB, RC⟩ := R
  subst hk
  obtain ⟨d, hd, ho, hx⟩ := RA j hj
  refine ⟨d, hd, ho, hx, fun i hi hw => ?_⟩
  obtain ⟨q, hq, ek, ev⟩ := RB _ (fw_sll _ i) (ho i hi)
  have e := RC q j hq hj (ek.trans hw)
  subst e
  exact ev.symm
/-- a key that isn't there: no taken slot has it -/
theorem fw_Rmiss {n : Nat} {a b : Nat → Int64} (R : fw_R n a b) {f : Int32} (hu : ∀ i, i < n → ¬ fw_yk (b i) = f) : ∀ s, s < 8 → a s < 0 → ¬ fw_xk (a s) = f := by
  intro s hs h e
  obtain ⟨_, _, _, _, RB, _⟩ := R
  obtain ⟨q, hq, ek, _⟩ := RB s hs h
  exact hu q hq (ek.trans e)
/-- a new entry in the first free slot of its probes -/
theorem fw_Rins {n : Nat} {a b : Nat → Int64} (R : fw_R n a b) (hn : n < 8) {f t : Int32} (hf : ¬ f < 0) (ht : ¬ t < 0) (hu : ∀ i, i < n → ¬ fw_yk (b i) = f) {d : Nat} (hd : d < 8) (ho : ∀ i, i < d → a (fw_sl f i) < 0) (hz : ¬ a (fw_sl f d) < 0) : fw_R (n + 1) (vp_updL a (fw_sl f d) (fw_ex f t)) (vp_updL b n (fw_ey f t)) := by
  obtain ⟨_, Rc, RN, RA, RB, RC⟩ := R
  have hl := fw_sll f d
  have hx := fw_exn hf ht
  have bo : ∀ j, j < n → vp_updL b n (fw_ey f t) j = b j := fun j hj => pk_uLn (by omega)
  have bn : fw_yk (vp_updL b n (fw_ey f t) n) = f := by rw [pk_uLs]; exact fw_eyk hf ht
  have bv : fw_yv (vp_updL b n (fw_ey f t) n) = t := by rw [pk_uLs]; exact fw_eyv hf ht
  have ao : ∀ s, a s < 0 → vp_updL a (fw_sl f d) (fw_ex f t) s = a s := fun s h => pk_uLn (fun e => hz (by rw [← e]; exact h))
  have an : vp_updL a (fw_sl f d) (fw_ex f t) (fw_sl f d) = fw_ex f t := pk_uLs
  have ak : ∀ s, a s < 0 → vp_updL a (fw_sl f d) (fw_ex f t) s < 0 := fun s h => by rw [ao s h]; exact h
  refine ⟨by omega, by rw [fw_up hl hx hz, Rc], ?_, ?_, ?_, ?_⟩
  · refine lt_s (fun j hj => ?_) ?_
    · rw [bo j hj]; exact RN j hj
    · rw [bn]; exact hf
  · refine lt_s (fun j hj => ?_) ?_
    · rw [bo j hj]
      obtain ⟨e, he, h1, h2⟩ := RA j hj
      refine ⟨e, he, fun i hi => ak _ (h1 i hi), ?_⟩
      rw [ao _ (h1 e (Nat.le_refl _))]
      exact h2
    · rw [bn]
      refine ⟨d, hd, fun i hi => ?_, ?_⟩
      · by_cases e : i = d
        · subst e
          rw [an]; exact hx
        · exact ak _ (ho i (by omega))
      · rw [an]; exact fw_exk hf ht
  · intro s hs h
    by_cases e : s = fw_sl f d
    · subst e
      rw [an]
      exact ⟨n, by omega, bn.trans (fw_exk hf ht).symm, bv.trans (fw_exv hf ht).symm⟩
    · rw [pk_uLn e] at h ⊢
      obtain ⟨j, hj, e1, e2⟩ := RB s hs h
      refine ⟨j, by omega, ?_, ?_⟩
      · rw [bo j hj]; exact e1
      · rw [bo j hj]; exact e2
  · intro i j hi hj e
    by_cases ei : i = n
    · by_cases ej : j = n
      · omega
      · subst ei
        rw [bn, bo j (by omega)] at e
        exact absurd e.symm (hu j (by omega))
    · by_cases ej : j = n
      · subst ej
        rw [bn, bo i (by omega)] at e
        exact absurd e (hu i (by omega))
      · rw [bo i (by omega), bo j (by omega)] at e
        exact RC i j (by omega) (by omega) e
end
section
/-! ===== what is owed ===== -/
/-- both count n; X's slots and Y's entries hold the same n entries -/
def i_Rel (k : Nat) (u : SX) (v : SY) : Prop := ∃ (n : Nat) (a b : Nat → Int64), u = (nI n, a) ∧ v = (nI n, b) ∧ fw_R n a b
theorem i_up {k : Nat} {u : SX} {v : SY} (h : i_Rel k u v) : i_Rel (k + 3) u v := h
theorem i_vc0 : wpX_init (fun u => wpY_init (fun v => i_Rel 0 u v)) := ⟨0, fun _ => 0, fun _ => 0, rfl, rfl, fw_R0⟩
theorem i_vc_insert {k : Nat} {u : SX} {v : SY} (I : i_Rel k u v) (hk : k + 3 ≤ 1536) (v1 : Int32) (v2 : Int32) : wpX_insert (fun r u' => wpY_insert (fun r' v' => r' = r ∧ i_Rel (k + 3) u' v') v v1 v2) u v1 v2 := by
  obtain ⟨n, a, b, rfl, rfl, R⟩ := I
  have J : i_Rel (k + 3) (nI n, a) (nI n, b) := ⟨n, a, b, rfl, rfl, R⟩
  have hn : n ≤ 8 := R.1
  have hc : fw_cn a = n := R.2.1
  by_cases h0 : v1 < 0
  · exact br_t h0 (br_t h0 ⟨rfl, J⟩)
  by_cases h1 : 0 ≤ v2
  · have h2 : ¬ v2 < 0 := Int32.not_lt.mpr h1
    refine br_f h0 (br_t h1 (nm_r (fw_sth v1) ?_))
    by_cases hp : ∃ j, j < n ∧ fw_yk (b j) = v1
    · obtain ⟨j, hj, ej⟩ := hp
      obtain ⟨d, hd, ho, hx, hv⟩ := fw_Rhit R hj ej
      have hu : ∀ i, i < n → fw_yk (b i) = v1 → i = j := fun i hi e => R.2.2.2.2.2 i j hi hj (e.trans ej.symm)
      exact ⟨d + 1, fw_ihit hd (fw_yIhit h0 h1 hn hj ⟨rfl, J⟩ ej hu) ho hx hv d 0 (by omega)⟩
    · have hu : ∀ i, i < n → ¬ fw_yk (b i) = v1 := fun i hi e => hp ⟨i, hi, e⟩
      refine ⟨9, fw_imiss (fw_Rmiss R hu) ?_ ?_ 8 0 (by omega) (fun _ z => absurd z (by omega))⟩
      · intro d hd ho hz
        have hl := fw_sll v1 d
        have h8 : n < 8 := by rw [← hc]; exact fw_free hl hz
        have R' := fw_Rins R h8 h0 h2 hu hd ho hz
        have ec : vp_updL a (nI (fw_sl v1 d)).toNatClampNeg (fw_ex v1 v2) = vp_updL a (fw_sl v1 d) (fw_ex v1 v2) := by rw [nI_clamp (by omega)]
        have G : wpY_insert (fun r' v' => r' = v2 ∧ i_Rel (k + 3) (nI (n + 1), vp_updL a (fw_sl v1 d) (fw_ex v1 v2)) v') (nI n, b) v1 v2 := fw_yInew h0 h1 h8 ⟨rfl, n + 1, _, _, rfl, rfl, R'⟩ hu
        exact br_f (nI_ge (b := 8) h8 (by decide)) (br_t (nI_pos' (by omega)) ⟨vp_in_nI hl (by decide), nm_r ec (nm_r (nI_1 n) G)⟩)
      · intro ho
        have h8 : n = 8 := by
          rw [← hc]
          refine fw_full (fun s hs => ?_)
          obtain ⟨i, hi, e⟩ := fw_cov v1 hs
          rw [← e]
          exact ho i hi
        exact br_t (nI_le (a := 8) (by omega) (by omega)) (fw_yIfull h0 h1 h8 ⟨rfl, J⟩ hu)
  · exact br_f h0 (br_f h1 (br_f h0 (br_f h1 ⟨rfl, J⟩)))
theorem i_vc_find {k : Nat} {u : SX} {v : SY} (I : i_Rel k u v) (hk : k + 3 ≤ 1536) (v1 : Int32) : wpX_find (fun r => wpY_find (fun r' => r' = r ∧ i_Rel (k + 3) u v) v v1) u v1 := by
  obtain ⟨n, a, b, rfl, rfl, R⟩ := I
  have J : i_Rel (k + 3) (nI n, a) (nI n, b) := ⟨n, a, b, rfl, rfl, R⟩
  have hn : n ≤ 8 := R.1
  by_cases h0 : 0 ≤ v1
  · refine br_t h0 (nm_r (fw_sth v1) ?_)
    by_cases hp : ∃ j, j < n ∧ fw_yk (b j) = v1
    · obtain ⟨j, hj, ej⟩ := hp
      obtain ⟨d, hd, ho, hx, hv⟩ := fw_Rhit R hj ej
      have hu : ∀ i, i < n → fw_yk (b i) = v1 → i = j := fun i hi e => R.2.2.2.2.2 i j hi hj (e.trans ej.symm)
      exact ⟨d + 1, fw_fhit (post := fun r => wpY_find (fun r' => r' = r ∧ i_Rel (k + 3) (nI n, a) (nI n, b)) (nI n, b) v1) (r := fw_yv (b j)) hd (fw_yFhit hn hj ⟨rfl, J⟩ ej hu) ho hx hv d 0 (by omega)⟩
    · have hu : ∀ i, i < n → ¬ fw_yk (b i) = v1 := fun i hi e => hp ⟨i, hi, e⟩
      exact ⟨9, fw_fmiss (post := fun r => wpY_find (fun r' => r' = r ∧ i_Rel (k + 3) (nI n, a) (nI n, b)) (nI n, b) v1) (fw_yFmiss hn ⟨rfl, J⟩ hu) (fw_Rmiss R hu) 8 0 (by omega)⟩
  · have hu : ∀ i, i < n → ¬ fw_yk (b i) = v1 := fun i hi e => R.2.2.1 i hi (by rw [e]; exact Int32.not_le.mp h0)
    exact br_f h0 (fw_yFmiss hn ⟨rfl, J⟩ hu)
theorem i_vc_load {k : Nat} {u : SX} {v : SY} (I : i_Rel k u v) (hk : k + 3 ≤ 1536) : wpX_load (fun r => wpY_load (fun r' => r' = r ∧ i_Rel (k + 3) u v) v) u := by
  obtain ⟨n, a, b, rfl, rfl, R⟩ := I
  exact ⟨rfl, n, a, b, rfl, rfl, R⟩
end
