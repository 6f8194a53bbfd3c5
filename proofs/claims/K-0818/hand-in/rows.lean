section
/-! ===== Int32 by its bits (rows of BITS.to-paste, the family 'bt': a few of it) ===== -/
def bt (x : Int32) (i : Nat) : Bool := x.toBitVec.getLsbD i
theorem b_ext {x y : Int32} (h : ∀ i, i < 32 → bt x i = bt y i) : x = y := Int32.toBitVec_inj.mp (BitVec.eq_of_getLsbD_eq (fun i hi => h i hi))
theorem b_or (x y : Int32) (i : Nat) : bt (x ||| y) i = (bt x i || bt y i) := by unfold bt; rw [Int32.toBitVec_or, BitVec.getLsbD_or]
theorem b_and (x y : Int32) (i : Nat) : bt (x &&& y) i = (bt x i && bt y i) := by unfold bt; rw [Int32.toBitVec_and, BitVec.getLsbD_and]
theorem b_0 (i : Nat) : bt 0 i = false := BitVec.getLsbD_zero
theorem s_l : ∀ n, n < 32 → ((nI n &&& 31).toBitVec.smod 32).toNat = n := by decide +kernel
theorem b_sshr (n : Nat) (hn : n < 32) (x : Int32) {i : Nat} (hi : i < 32) : bt (x >>> (nI n &&& 31)) i = if n + i < 32 then bt x (n + i) else bt x 31 := by
  unfold bt
  rw [Int32.toBitVec_shiftRight]
  show (x.toBitVec.sshiftRight ((nI n &&& 31).toBitVec.smod 32).toNat).getLsbD i = _
  rw [s_l n hn, BitVec.getLsbD_sshiftRight, BitVec.msb_eq_getLsbD_last]
  simp [hi]
/-! ===== one bit of a byte: test, set, the cast ===== -/
theorem xv_one : ∀ i, i < 32 → bt 1 i = decide (i = 0) := by decide +kernel
theorem xv_shl : ∀ t, t < 8 → ∀ s, s < 8 → bt ((1 : Int32) <<< (nI t &&& 31)) s = decide (s = t) := by decide +kernel
/-- the test of bit s -/
theorem xv_test (x : Int32) {s : Nat} (hs : s < 32) : ((x >>> (nI s &&& 31)) &&& 1) = 0 ↔ bt x s = false := by
  have e : bt (x >>> (nI s &&& 31)) 0 = bt x s := by
    rw [b_sshr s hs x (i := 0) (by omega), Nat.add_zero, if_pos hs]
  rw [← e]
  constructor
  · intro h
    have h0 : bt ((x >>> (nI s &&& 31)) &&& 1) 0 = false := by rw [h]; exact b_0 0
    rw [b_and, xv_one 0 (by omega), decide_eq_true rfl, Bool.and_true] at h0
    exact h0
  · intro h
    apply b_ext
    intro i hi
    rw [b_and, xv_one i hi, b_0]
    by_cases z : i = 0
    · rw [z, h, Bool.false_and]
    · rw [decide_eq_false z, Bool.and_false]
/-- a byte cast keeps the low eight bits -/
theorem xv_cast (x : Int32) {s : Nat} (hs : s < 8) : bt x.toInt8.toInt32 s = bt x s := by
  unfold bt
  rw [Int8.toBitVec_toInt32, Int32.toBitVec_toInt8, BitVec.getLsbD_signExtend, BitVec.getLsbD_signExtend, if_pos hs, if_pos (show s < 32 by omega)]
  simp only [hs, show s < 32 by omega, decide_true, Bool.true_and]
/-- what a byte keeps once bit t is set -/
theorem xv_set (x : Int32) {s t : Nat} (hs : s < 8) (ht : t < 8) : bt (vp_nar .byte ((x ||| ((1 : Int32) <<< (nI t &&& 31))).toInt8.toInt32)) s = (bt x s || decide (s = t)) := by
  rw [vp_nar_byte, xv_cast _ hs, xv_cast _ hs, b_or, xv_shl t ht s hs]
/-! ===== slot j: byte j / 8, bit j % 8 ===== -/
theorem xv_div : ∀ j, j < 12 → nI j >>> ((3 : Int32) &&& 31) = nI (j / 8) := by decide +kernel
theorem xv_mod : ∀ j, j < 12 → nI j &&& 7 = nI (j % 8) := by decide +kernel
theorem xv_bool {z : Int32} (h : z = 0 ∨ z = 1) : vp_nar .boolean z = z := by rcases h with rfl | rfl <;> rfl
/-- slot j of the bitmap -/
def xv_b (a : Nat → Int32) (j : Nat) : Bool := bt (a (j / 8)) (j % 8)
theorem xv_in {j : Nat} (hj : j < 12) : vp_in (nI j >>> ((3 : Int32) &&& 31)) 2 := by
  rw [xv_div j hj]; exact vp_in_nI (by omega) (by omega)
theorem xv_cl {j : Nat} (hj : j < 12) : (nI j >>> ((3 : Int32) &&& 31)).toNatClampNeg = j / 8 := by
  rw [xv_div j hj]; exact nI_clamp (by omega)
/-- the test as it is printed -/
theorem xv_rd (a : Nat → Int32) {j : Nat} (hj : j < 12) : (((a (nI j >>> ((3 : Int32) &&& 31)).toNatClampNeg) >>> ((nI j &&& 7) &&& 31)) &&& 1) = 0 ↔ xv_b a j = false := by
  rw [xv_cl hj, xv_mod j hj]
  exact xv_test _ (by omega)
/-- the store as it is printed -/
theorem xv_wr (a : Nat → Int32) {n j : Nat} (hn : n < 12) : xv_b (upd a (nI n >>> ((3 : Int32) &&& 31)).toNatClampNeg (vp_nar .byte (((a (nI n >>> ((3 : Int32) &&& 31)).toNatClampNeg) ||| ((1 : Int32) <<< ((nI n &&& 7) &&& 31))).toInt8.toInt32))) j = (xv_b a j || decide (j = n)) := by
  rw [xv_cl hn, xv_mod n hn]
  unfold xv_b upd
  by_cases z : j / 8 = n / 8
  · rw [if_pos z, xv_set _ (by omega) (by omega), z]
    congr 1
    by_cases y : j = n
    · rw [decide_eq_true y, decide_eq_true (by omega)]
    · rw [decide_eq_false y, decide_eq_false (by omega)]
  · rw [if_neg z, decide_eq_false (by intro y; exact z (by rw [y])), Bool.or_false]
/-! ===== the count of nulls ===== -/
def xv_c (b : Nat → Int32) : Nat → Nat
  | 0 => 0
  | n + 1 => if b n = 0 then xv_c b n + 1 else xv_c b n
theorem xv_c_s0 {b : Nat → Int32} {n : Nat} (h : b n = 0) : xv_c b (n + 1) = xv_c b n + 1 := if_pos h
theorem xv_c_s1 {b : Nat → Int32} {n : Nat} (h : ¬ b n = 0) : xv_c b (n + 1) = xv_c b n := if_neg h
theorem xv_c_cg {b b' : Nat → Int32} : ∀ n, (∀ j, j < n → b' j = b j) → xv_c b' n = xv_c b n := by
  intro n
  induction n with
  | zero => intro _; rfl
  | succ n ih =>
    intro h
    have e := ih (fun j hj => h j (by omega))
    have e2 := h n (by omega)
    show (if b' n = 0 then xv_c b' n + 1 else xv_c b' n) = (if b n = 0 then xv_c b n + 1 else xv_c b n)
    rw [e, e2]
theorem xv_us {f : Nat → Int32} {k : Nat} {x : Int32} : upd f k x k = x := if_pos rfl
theorem xv_un {f : Nat → Int32} {k j : Nat} {x : Int32} (h : j ≠ k) : upd f k x j = f j := if_neg h
end
section
/-! ===== the relation, and the two loops ===== -/
/-- the bitmap a and the flags b say the same of the first n slots, and a is clear behind them -/
def xv_R (n : Nat) (a b : Nat → Int32) : Prop := n ≤ 12 ∧ (∀ j, j < n → (xv_b a j = false ↔ b j = 0)) ∧ (∀ j, n ≤ j → j < 12 → xv_b a j = false)
/-- the relation: one length n, the cached count is the count of null flags, and xv_R -/
def i_Rel (_ : Nat) (u : SX) (v : SY) : Prop := ∃ (n : Nat) (a b : Nat → Int32), u = (nI n, nI (xv_c b n), a) ∧ v = (nI n, b) ∧ xv_R n a b
theorem i_up {k : Nat} {u : SX} {v : SY} (h : i_Rel k u v) : i_Rel (k + 2) u v := h
theorem i_vc0 : wpX_init (fun u => wpY_init (fun v => i_Rel 0 u v)) := by
  refine ⟨0, fun _ => 0, fun _ => 0, ?_, ?_, Nat.zero_le _, fun j hj => absurd hj (Nat.not_lt_zero j), fun j _ _ => b_0 _⟩
  · show ((0 : Int32), (0 : Int32), (fun _ : Nat => (0 : Int32))) = (nI 0, nI 0, _)
    rw [nI_0]
  · rw [nI_0]
/-- X's loop from slot i to the limit m -/
theorem xv_X {post : Int32 → Prop} {n m : Nat} {a b : Nat → Int32} {fl fn : Int32} (R : xv_R n a b) (hm : m ≤ n) (hp : post (nI (xv_c b m))) : ∀ d i, i + d = m → wX_nullsBefore_26 post (nI m) fl fn a (d + 1) (nI (xv_c b i)) (nI i) := by
  obtain ⟨h12, hb, _⟩ := R
  intro d
  induction d with
  | zero =>
    intro i hi
    have e : i = m := by omega
    subst e
    exact br_t (nI_le (Nat.le_refl _) (by omega)) hp
  | succ d ih =>
    intro i hi
    have hi12 : i < 12 := by omega
    have h := ih (i + 1) (by omega)
    refine br_f (nI_ge (by omega) (by omega)) ⟨xv_in hi12, ?_⟩
    by_cases z : b i = 0
    · refine br_t ((xv_rd a hi12).mpr ((hb i (by omega)).mpr z)) fun x ex y ey => ?_
      rw [ex, ey, nI_1, nI_1, ← xv_c_s0 z]
      exact h
    · refine br_f (fun q => z ((hb i (by omega)).mp ((xv_rd a hi12).mp q))) fun y ey => ?_
      rw [ey, nI_1, ← xv_c_s1 z]
      exact h
/-- Y's loop from slot i to m, the lesser of its argument p and the length n -/
theorem xv_Y {post : Int32 → Prop} {n m : Nat} {b : Nat → Int32} {p : Int32} (h12 : n ≤ 12) (hm : m ≤ n) (hlo : ∀ i, i < m → ¬ p ≤ nI i) (hhi : p ≤ nI m ∨ m = n) (hp : post (nI (xv_c b m))) : ∀ d i, i + d = m → wY_nullsBefore_4 post p (nI n) b (d + 1) (nI (xv_c b i)) (nI i) := by
  intro d
  induction d with
  | zero =>
    intro i hi
    have e : i = m := by omega
    subst e
    refine br_c (fun _ => hp) fun hn => ?_
    rcases hhi with q | q
    · exact absurd q hn
    · subst q
      exact br_t (nI_le (Nat.le_refl _) (by omega)) hp
  | succ d ih =>
    intro i hi
    have h := ih (i + 1) (by omega)
    have hc : (nI i).toNatClampNeg = i := nI_clamp (by omega)
    refine br_f (hlo i (by omega)) (br_f (nI_ge (by omega) (by omega)) ⟨vp_in_nI (by omega) (by omega), ?_⟩)
    rw [hc]
    by_cases z : b i = 0
    · refine br_t z fun x ex y ey => ?_
      rw [ex, ey, nI_1, nI_1, ← xv_c_s0 z]
      exact h
    · refine br_f z fun y ey => ?_
      rw [ey, nI_1, ← xv_c_s1 z]
      exact h
/-- Y's nullsBefore answers the count below m -/
theorem xv_YB {post : Int32 → Prop} {n m : Nat} {b : Nat → Int32} {p : Int32} (h12 : n ≤ 12) (hm : m ≤ n) (hlo : ∀ i, i < m → ¬ p ≤ nI i) (hhi : p ≤ nI m ∨ m = n) (hp : post (nI (xv_c b m))) : wpY_nullsBefore post (nI n, b) p := by
  have h := xv_Y (b := b) (p := p) h12 hm hlo hhi hp m 0 (Nat.zero_add m)
  rw [show xv_c b 0 = 0 from rfl, nI_0] at h
  exact ⟨m + 1, h⟩
theorem xv_XB {post : Int32 → Prop} {n m : Nat} {a b : Nat → Int32} {fl fn : Int32} (R : xv_R n a b) (hm : m ≤ n) (hp : post (nI (xv_c b m))) : ∃ n26 : Nat, wX_nullsBefore_26 post (nI m) fl fn a n26 0 0 := by
  have h := xv_X (fl := fl) (fn := fn) R hm hp m 0 (Nat.zero_add m)
  rw [show xv_c b 0 = 0 from rfl, nI_0] at h
  exact ⟨m + 1, h⟩
end
section
/-! ===== what is owed, a method each ===== -/
theorem xv_12 : nI 12 = 12 := by decide +kernel
theorem i_vc_append {k : Nat} {u : SX} {v : SY} (I : i_Rel k u v) (hk : k + 2 ≤ 1024) (v1 : Int32) : wpX_append (fun r u' => wpY_append (fun r' v' => r' = r ∧ i_Rel (k + 2) u' v') v (lw_bz v1)) u (lw_bz v1) := by
  obtain ⟨n, a, b, rfl, rfl, h12, hb, hz⟩ := I
  have h01 := lw_bz_01 v1
  generalize lw_bz v1 = z at h01
  by_cases hn : n < 12
  · have hL : nI n < (12 : Int32) := by rw [← xv_12]; exact nI_lt hn (by omega)
    have hc : (nI n).toNatClampNeg = n := nI_clamp (by omega)
    have hI : vp_in (nI n) 12 := vp_in_nI hn (by omega)
    have hg : xv_c (upd b n z) n = xv_c b n := xv_c_cg n (fun j hj => xv_un (by omega))
    by_cases z0 : z = 0
    · refine br_t hL (br_t z0 fun x ex y ey => br_t hL ⟨hI, fun b' eb w ew => ⟨rfl, n + 1, a, upd b n z, ?_, ?_, by omega, ?_, ?_⟩⟩)
      · rw [ex, ey, nI_1, nI_1, xv_c_s0 (by rw [xv_us]; exact z0), hg]
      · rw [ew, eb, nI_1, hc, xv_bool h01]
      · intro j hj
        by_cases q : j = n
        · subst q
          rw [xv_us]
          exact ⟨fun _ => z0, fun _ => hz j (Nat.le_refl j) hn⟩
        · rw [xv_un q]
          exact hb j (by omega)
      · exact fun j h1 h2 => hz j (by omega) h2
    · refine br_t hL (br_f z0 ⟨xv_in hn, xv_in hn, fun a' ea y ey => br_t hL ⟨hI, fun b' eb w ew => ⟨rfl, n + 1, a', upd b n z, ?_, ?_, by omega, ?_, ?_⟩⟩⟩)
      · rw [ey, nI_1, xv_c_s1 (by rw [xv_us]; exact z0), hg]
      · rw [ew, eb, nI_1, hc, xv_bool h01]
      · intro j hj
        rw [ea, xv_wr a hn]
        by_cases q : j = n
        · subst q
          rw [xv_us, decide_eq_true rfl, Bool.or_true]
          exact ⟨fun y => Bool.noConfusion y, fun y => absurd y z0⟩
        · rw [xv_un q, decide_eq_false q, Bool.or_false]
          exact hb j (by omega)
      · intro j h1 h2
        rw [ea, xv_wr a hn, decide_eq_false (by omega), Bool.or_false]
        exact hz j (by omega) h2
  · have hL : ¬ nI n < (12 : Int32) := by rw [← xv_12]; exact nI_nlt (by omega) (by omega)
    exact br_f hL (br_f hL ⟨rfl, n, a, b, rfl, rfl, h12, hb, hz⟩)
theorem i_vc_isValid {k : Nat} {u : SX} {v : SY} (I : i_Rel k u v) (hk : k + 2 ≤ 1024) (v1 : Int32) : wpX_isValid (fun r => wpY_isValid (fun r' => r' = r ∧ i_Rel (k + 2) u v) v v1) u v1 := by
  have I2 : i_Rel (k + 2) u v := I
  obtain ⟨n, a, b, rfl, rfl, h12, hb, hz⟩ := I
  by_cases h0 : v1 < 0
  · exact br_t h0 (br_t h0 ⟨rfl, I2⟩)
  · obtain ⟨j, hj, rfl⟩ := nI_of h0
    by_cases hn : j < n
    · have hL : nI j < nI n := nI_lt hn (by omega)
      have hG : ¬ nI n ≤ nI j := nI_ge hn (by omega)
      have hc : (nI j).toNatClampNeg = j := nI_clamp hj
      have hI : vp_in (nI j) 12 := vp_in_nI (by omega) (by omega)
      by_cases z : b j = 0
      · have zY : b (nI j).toNatClampNeg = 0 := by rw [hc]; exact z
        exact br_f h0 (br_t hL ⟨xv_in (by omega), br_t ((xv_rd a (by omega)).mpr ((hb j hn).mpr z)) (br_f h0 (br_f hG ⟨hI, br_t zY ⟨rfl, I2⟩⟩))⟩)
      · have zY : ¬ b (nI j).toNatClampNeg = 0 := by rw [hc]; exact z
        exact br_f h0 (br_t hL ⟨xv_in (by omega), br_f (fun q => z ((hb j hn).mp ((xv_rd a (by omega)).mp q))) (br_f h0 (br_f hG ⟨hI, br_f zY ⟨rfl, I2⟩⟩))⟩)
    · have hL : ¬ nI j < nI n := nI_nlt (by omega) hj
      have hG : nI n ≤ nI j := nI_le (by omega) hj
      exact br_f h0 (br_f hL (br_f h0 (br_t hG ⟨rfl, I2⟩)))
theorem i_vc_nullCount {k : Nat} {u : SX} {v : SY} (I : i_Rel k u v) (hk : k + 2 ≤ 1024) : wpX_nullCount (fun r => wpY_nullCount (fun r' => r' = r ∧ i_Rel (k + 2) u v) v) u := by
  have I2 : i_Rel (k + 2) u v := I
  obtain ⟨n, a, b, rfl, rfl, h12, hb, hz⟩ := I
  unfold wpX_nullCount wpY_nullCount
  dsimp only
  exact xv_YB h12 (Nat.le_refl n) (fun i hi => nI_ge hi (by omega)) (Or.inr rfl) ⟨rfl, I2⟩
theorem i_vc_nullsBefore {k : Nat} {u : SX} {v : SY} (I : i_Rel k u v) (hk : k + 2 ≤ 1024) (v1 : Int32) : wpX_nullsBefore (fun r => wpY_nullsBefore (fun r' => r' = r ∧ i_Rel (k + 2) u v) v v1) u v1 := by
  have I2 : i_Rel (k + 2) u v := I
  obtain ⟨n, a, b, rfl, rfl, R⟩ := I
  have h12 := R.1
  unfold wpX_nullsBefore
  dsimp only
  by_cases h0 : 0 < v1
  · have hn0 : ¬ v1 < 0 := fun q => by
      rw [Int32.lt_iff_toInt_lt] at q h0
      omega
    obtain ⟨m, hm, rfl⟩ := nI_of hn0
    refine br_t h0 ?_
    by_cases hmn : m ≤ n
    · exact br_t (nI_le hmn (by omega)) (xv_XB R hmn (xv_YB h12 hmn (fun i hi => nI_ge hi hm) (Or.inl (nI_le (Nat.le_refl m) hm)) ⟨rfl, I2⟩))
    · exact br_f (nI_ge (by omega) hm) (xv_XB R (Nat.le_refl n) (xv_YB h12 (Nat.le_refl n) (fun i hi => nI_ge (by omega) hm) (Or.inr rfl) ⟨rfl, I2⟩))
  · refine br_f h0 (xv_YB (m := 0) h12 (Nat.zero_le n) (fun i hi => absurd hi (Nat.not_lt_zero i)) (Or.inl ?_) ⟨?_, I2⟩)
    · rw [nI_0]; exact Int32.not_lt.mp h0
    · exact nI_0
end
