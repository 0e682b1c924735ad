section
/-! bits of a long, of an int -/
def bv_b (x : Int64) (j : Nat) : Bool := x.toBitVec.getLsbD j
def bv_i (x : Int32) (j : Nat) : Bool := x.toBitVec.getLsbD j
theorem bv_or (x y : Int64) (i : Nat) : bv_b (x ||| y) i = (bv_b x i || bv_b y i) := by unfold bv_b; rw [Int64.toBitVec_or, BitVec.getLsbD_or]
theorem bv_and (x y : Int64) (i : Nat) : bv_b (x &&& y) i = (bv_b x i && bv_b y i) := by unfold bv_b; rw [Int64.toBitVec_and, BitVec.getLsbD_and]
theorem bv_big {x : Int64} {i : Nat} (h : 64 ≤ i) : bv_b x i = false := BitVec.getLsbD_of_ge _ _ h
theorem bv_0 (i : Nat) : bv_b 0 i = false := BitVec.getLsbD_zero
theorem bv_m1 : ∀ i, i < 64 → bv_b (-1) i = true := by decide +kernel
theorem bv_sl : ∀ n, n < 64 → (((nI n).toInt64 &&& 63).toBitVec.smod 64).toNat = n := by decide +kernel
theorem bv_su : ∀ n, n < 64 → (((nI n).toInt64.toUInt64 &&& Int64.toUInt64 63).toBitVec % 64).toNat = n := by decide +kernel
theorem bv_s32 : ∀ n, n < 32 → ((nI n &&& 31).toBitVec.smod 32).toNat = n := by decide +kernel
theorem bv_shl (n : Nat) (hn : n < 64) (x : Int64) {i : Nat} (hi : i < 64) : bv_b (x <<< ((nI n).toInt64 &&& 63)) i = (decide (n ≤ i) && bv_b x (i - n)) := by
  unfold bv_b
  rw [Int64.toBitVec_shiftLeft]
  show (x.toBitVec <<< (((nI n).toInt64 &&& 63).toBitVec.smod 64).toNat).getLsbD i = _
  rw [bv_sl n hn, BitVec.getLsbD_shiftLeft]
  rcases Nat.lt_or_ge i n with h | h
  · simp [h, Nat.not_le.mpr h]
  · simp [hi, h, Nat.not_lt.mpr h]
theorem bv_ushr (n : Nat) (hn : n < 64) (x : Int64) (i : Nat) : bv_b ((x.toUInt64 >>> ((nI n).toInt64.toUInt64 &&& Int64.toUInt64 63)).toInt64) i = bv_b x (n + i) := by
  show (x.toUInt64 >>> ((nI n).toInt64.toUInt64 &&& Int64.toUInt64 63)).toBitVec.getLsbD i = x.toUInt64.toBitVec.getLsbD (n + i)
  rw [UInt64.toBitVec_shiftRight]
  show (x.toUInt64.toBitVec >>> (((nI n).toInt64.toUInt64 &&& Int64.toUInt64 63).toBitVec % 64).toNat).getLsbD i = _
  rw [bv_su n hn, BitVec.getLsbD_ushiftRight]
theorem bv_and1 (x : Int64) : x &&& 1 = 1 ↔ bv_b x 0 = true := by
  rw [← Int64.toBitVec_inj, Int64.toBitVec_and]
  show x.toBitVec &&& 1#64 = 1#64 ↔ x.toBitVec.getLsbD 0 = true
  constructor
  · intro h
    have t := congrArg (fun y => BitVec.getLsbD y 0) h
    simpa [BitVec.getLsbD_and, BitVec.getLsbD_one] using t
  · intro h
    apply BitVec.eq_of_getLsbD_eq
    intro i hi
    rw [BitVec.getLsbD_and, BitVec.getLsbD_one]
    cases i with
    | zero => rw [h]; rfl
    | succ i => simp
theorem bv_get (w : Int64) {n : Nat} (hn : n < 64) : ((w.toUInt64 >>> ((nI n).toInt64.toUInt64 &&& Int64.toUInt64 63)).toInt64 &&& 1) = 1 ↔ bv_b w n = true := by
  rw [bv_and1, bv_ushr n hn, Nat.add_zero]
theorem bv_iand1 (x : Int32) : x &&& 1 = 1 ↔ bv_i x 0 = true := by
  rw [← Int32.toBitVec_inj, Int32.toBitVec_and]
  show x.toBitVec &&& 1#32 = 1#32 ↔ x.toBitVec.getLsbD 0 = true
  constructor
  · intro h
    have t := congrArg (fun y => BitVec.getLsbD y 0) h
    simpa [BitVec.getLsbD_and, BitVec.getLsbD_one] using t
  · intro h
    apply BitVec.eq_of_getLsbD_eq
    intro i hi
    rw [BitVec.getLsbD_and, BitVec.getLsbD_one]
    cases i with
    | zero => rw [h]; rfl
    | succ i => simp
theorem bv_iget (x : Int32) {n : Nat} (hn : n < 32) : ((x >>> (nI n &&& 31)) &&& 1) = 1 ↔ bv_i x n = true := by
  rw [bv_iand1]
  unfold bv_i
  rw [Int32.toBitVec_shiftRight]
  show (x.toBitVec.sshiftRight ((nI n &&& 31).toBitVec.smod 32).toNat).getLsbD 0 = true ↔ _
  rw [bv_s32 n hn, BitVec.getLsbD_sshiftRight]
  simp [hn]
theorem bv_ext (x : Int32) {i : Nat} (hi : i < 32) : bv_b x.toInt64 i = bv_i x i := by
  unfold bv_b bv_i
  rw [Int32.toBitVec_toInt64, BitVec.getLsbD_signExtend]
  simp [hi, show i < 64 by omega]
theorem bv_lm : ∀ n, n < 64 → ∀ j, j < 64 → bv_b (((1 : Int64) <<< ((nI n).toInt64 &&& 63)) - 1) j = decide (j < n) := by decide +kernel
/-! ints by their toInt -/
theorem bv_lt {x y : Int32} {X Y : Int} (hx : x.toInt = X) (hy : y.toInt = Y) : x < y ↔ X < Y := by rw [Int32.lt_iff_toInt_lt, hx, hy]
theorem bv_le {x y : Int32} {X Y : Int} (hx : x.toInt = X) (hy : y.toInt = Y) : x ≤ y ↔ X ≤ Y := by rw [Int32.le_iff_toInt_le, hx, hy]
theorem bv_eq {x y : Int32} {X Y : Int} (hx : x.toInt = X) (hy : y.toInt = Y) : x = y ↔ X = Y := by rw [← Int32.toInt_inj, hx, hy]
theorem bv_add {x y : Int32} {X Y : Int} (hx : x.toInt = X) (hy : y.toInt = Y) (h1 : -2147483648 ≤ X + Y) (h2 : X + Y < 2147483648) : (x + y).toInt = X + Y := by
  rw [Int32.toInt_add, hx, hy]
  exact Int.bmod_eq_of_le (by omega) (by omega)
theorem bv_sub {x y : Int32} {X Y : Int} (hx : x.toInt = X) (hy : y.toInt = Y) (h1 : -2147483648 ≤ X - Y) (h2 : X - Y < 2147483648) : (x - y).toInt = X - Y := by
  rw [Int32.toInt_sub, hx, hy]
  exact Int.bmod_eq_of_le (by omega) (by omega)
theorem bv_rg (x : Int32) : -2147483648 ≤ x.toInt ∧ x.toInt < 2147483648 := ⟨x.le_toInt, x.toInt_lt⟩
theorem bv_of {x : Int32} {n : Nat} (h : x.toInt = n) : x = nI n := by
  have r := bv_rg x
  apply Int32.toInt_inj.mp
  rw [h, nI_toInt (by omega)]
theorem bv_shr6 (x : Int32) : (x >>> ((6 : Int32) &&& 31)).toInt = x.toInt / 64 := by
  rw [pk_shr x _ 6 (by decide), Int.shiftRight_eq_div_pow]
  rfl
theorem bv_and63 (x : Int32) : ∃ s : Nat, s < 64 ∧ x &&& 63 = nI s ∧ (s : Int) = x.toInt % 64 := by
  refine ⟨x.toBitVec.toNat % 2 ^ 6, by omega, pk_and x 6 (by decide), ?_⟩
  have h : x.toInt = if 2 * x.toBitVec.toNat < 2 ^ 32 then (x.toBitVec.toNat : Int) else (x.toBitVec.toNat : Int) - (2 ^ 32 : Nat) := rfl
  rw [h]
  split <;> omega
/-! the remainder -/
theorem bv_em {K m c r : Int} (h : K = r + m * c) (h0 : 0 ≤ r) (h1 : r < m) : K % m = r := by
  rw [h, Int.add_mul_emod_self_left, Int.emod_eq_of_lt h0 h1]
theorem bv_tq (K : Int) {m : Int} (hm : 0 < m) : ∃ q t : Int, K.tdiv m = q ∧ q * m + t = K ∧ -m < t ∧ t < m ∧ (0 ≤ t → t = K % m) ∧ (t < 0 → t + m = K % m) ∧ (0 ≤ K → 0 ≤ q ∧ q ≤ K ∧ 0 ≤ q * m ∧ q * m ≤ K) ∧ (K < 0 → K ≤ q ∧ q ≤ 0 ∧ K ≤ q * m ∧ q * m ≤ 0) := by
  rcases Int.lt_or_le K 0 with h | h
  · have h1 := Int.mul_ediv_add_emod (-K) m
    have h2 := Int.emod_nonneg (-K) (show m ≠ 0 by omega)
    have h3 := Int.emod_lt_of_pos (-K) hm
    have h4 : 0 ≤ (-K) / m := Int.ediv_nonneg (by omega) (by omega)
    have h5 : (-K) / m ≤ -K := Int.ediv_le_self m (by omega)
    have h6 : 0 ≤ m * ((-K) / m) := Int.mul_nonneg (by omega) h4
    have e : K.tdiv m = -((-K) / m) := by
      rw [← Int.tdiv_eq_ediv_of_nonneg (show 0 ≤ -K by omega), Int.neg_tdiv, Int.neg_neg]
    have e2 : -((-K) / m) * m = -(m * ((-K) / m)) := by rw [Int.neg_mul, Int.mul_comm]
    refine ⟨-((-K) / m), -((-K) % m), e, ?_⟩
    rw [e2]
    have e3 : m * (-((-K) / m) - 1) = -(m * ((-K) / m)) - m := by rw [Int.mul_sub, Int.mul_neg, Int.mul_one]
    have e4 : m * (-((-K) / m)) = -(m * ((-K) / m)) := Int.mul_neg _ _
    refine ⟨by omega, by omega, by omega, fun z => ?_, fun z => ?_, fun z => absurd z (by omega), fun _ => by omega⟩
    · rw [bv_em (K := K) (c := -((-K) / m)) (r := 0) (by omega) (by omega) hm]
      omega
    · rw [bv_em (K := K) (c := -((-K) / m) - 1) (r := m - (-K) % m) (by omega) (by omega) (by omega)]
      omega
  · have h1 := Int.mul_ediv_add_emod K m
    have h2 := Int.emod_nonneg K (show m ≠ 0 by omega)
    have h3 := Int.emod_lt_of_pos K hm
    have h4 : 0 ≤ K / m := Int.ediv_nonneg h (by omega)
    have h5 : K / m ≤ K := Int.ediv_le_self m h
    have h6 : 0 ≤ m * (K / m) := Int.mul_nonneg (by omega) h4
    refine ⟨K / m, K % m, Int.tdiv_eq_ediv_of_nonneg h, ?_⟩
    rw [Int.mul_comm]
    refine ⟨by omega, by omega, by omega, fun _ => rfl, fun z => absurd z (by omega), fun _ => by omega, fun z => absurd z (by omega)⟩
theorem bv_rem (k : Int32) {m : Nat} (h0 : 0 < m) (hm : m ≤ 32) : ∃ t : Int, (k - k / nI m * nI m).toInt = t ∧ -(m : Int) < t ∧ t < m ∧ (0 ≤ t → t = k.toInt % m) ∧ (t < 0 → t + m = k.toInt % m) := by
  have r := bv_rg k
  obtain ⟨q, t, e, e1, t1, t2, t3, t4, q1, q2⟩ := bv_tq k.toInt (m := (m : Int)) (by omega)
  have d : (k / nI m).toInt = q := by
    rw [Int32.toInt_div, nI_toInt (by omega), e]
    exact Int.bmod_eq_of_le (by omega) (by omega)
  have d2 : (k / nI m * nI m).toInt = q * m := by
    rw [Int32.toInt_mul, d, nI_toInt (by omega)]
    exact Int.bmod_eq_of_le (by omega) (by omega)
  refine ⟨t, ?_, t1, t2, t3, t4⟩
  rw [bv_sub rfl d2 (by omega) (by omega)]
  omega
theorem bv_lrem (k : Int64) {m : Nat} (h0 : 0 < m) (hm : m ≤ 32) : ∃ t : Int, (k - k / lN m * lN m).toInt = t ∧ -(m : Int) < t ∧ t < m ∧ (0 ≤ t → t = k.toInt % m) ∧ (t < 0 → t + m = k.toInt % m) := by
  have r1 : -9223372036854775808 ≤ k.toInt := k.le_toInt
  have r2 : k.toInt < 9223372036854775808 := k.toInt_lt
  obtain ⟨q, t, e, e1, t1, t2, t3, t4, q1, q2⟩ := bv_tq k.toInt (m := (m : Int)) (by omega)
  have d : (k / lN m).toInt = q := by
    rw [Int64.toInt_div, lN_toInt (by omega), e]
    exact Int.bmod_eq_of_le (by omega) (by omega)
  have d2 : (k / lN m * lN m).toInt = q * m := by
    rw [Int64.toInt_mul, d, lN_toInt (by omega)]
    exact Int.bmod_eq_of_le (by omega) (by omega)
  refine ⟨t, ?_, t1, t2, t3, t4⟩
  rw [Int64.toInt_sub, d2]
  have d3 : (k.toInt - q * m).bmod (2 ^ 64) = k.toInt - q * m := Int.bmod_eq_of_le (by omega) (by omega)
  rw [d3]
  omega
theorem bv_lsum (x y : Int32) : (x.toInt64 + y.toInt64).toInt = x.toInt + y.toInt := by
  have r := bv_rg x
  have r' := bv_rg y
  rw [Int64.toInt_add, Int32.toInt_toInt64, Int32.toInt_toInt64]
  exact Int.bmod_eq_of_le (by omega) (by omega)
end
section
/-! element t of four words -/
def bv_E (x : Nat → Int64) (t : Int) : Bool := decide (0 ≤ t ∧ t < 256) && bv_b (x (t.toNat / 64)) (t.toNat % 64)
theorem bv_E_in {x : Nat → Int64} {j b : Nat} {t : Int} (hj : j < 4) (hb : b < 64) (ht : t = 64 * j + b) : bv_E x t = bv_b (x j) b := by
  unfold bv_E
  rw [decide_eq_true (by omega), Bool.true_and, show t.toNat / 64 = j by omega, show t.toNat % 64 = b by omega]
theorem bv_E_out {x : Nat → Int64} {t : Int} (h : t < 0 ∨ 256 ≤ t) : bv_E x t = false := by
  unfold bv_E
  rw [decide_eq_false (by omega), Bool.false_and]
theorem bv_E_eq {x y : Nat → Int64} (h : ∀ j, j < 4 → x j = y j) (t : Int) : bv_E x t = bv_E y t := by
  by_cases g : t < 0 ∨ 256 ≤ t
  · rw [bv_E_out g, bv_E_out g]
  · unfold bv_E
    rw [h _ (by omega)]
theorem bv_fill (Q : Nat → Int64 → Prop) {s : Nat → Int64} {i k : Nat} {x : Int64} (hk : k = i) (h : ∀ j, j < i → Q j (s j)) (hx : Q i x) : ∀ j, j < i + 1 → Q j (vp_updL s k x j) := by
  intro j hj
  rw [hk]
  by_cases e : j = i
  · rw [e, pk_uLs]
    exact hx
  · rw [pk_uLn e]
    exact h j (by omega)
theorem bv_ix (v i : Nat) : nI v * 4 + nI i = nI (4 * v + i) := by
  show nI v * nI 4 + nI i = _
  rw [pk_mul, nI_add, Nat.mul_comm]
/-! masks -/
theorem bv_bad {post : Int32 → Prop} {v : Nat} (hv : v < 6) (H : post 0) : wpX_bad post () (nI v) :=
  br_f (nI_pos (by omega)) (br_t (nI_le (b := 5) (by omega) (by decide)) H)
theorem bv_lowMask {post : Int64 → Prop} {p : Int32} {P : Int} (hp : p.toInt = P) (H : ∀ w, (∀ b : Nat, b < 64 → bv_b w b = decide ((b : Int) < P)) → post w) : wpX_lowMask post () p := by
  refine br_c (fun h => br_c (fun h2 => H _ (fun b hb => ?_)) (fun h2 => H _ (fun b hb => ?_))) (fun h => H _ (fun b hb => ?_))
  · rw [bv_lt (show (0 : Int32).toInt = 0 by decide) hp] at h
    rw [bv_lt hp (show (64 : Int32).toInt = 64 by decide)] at h2
    rw [bv_of (x := p) (n := P.toNat) (by omega), bv_lm _ (by omega) b hb]
    exact decide_eq_decide.mpr (by omega)
  · rw [bv_lt hp (show (64 : Int32).toInt = 64 by decide)] at h2
    rw [bv_m1 b hb, decide_eq_true (by omega)]
  · rw [bv_lt (show (0 : Int32).toInt = 0 by decide) hp] at h
    rw [bv_0, decide_eq_false (by omega)]
theorem bv_lowMaskAt {post : Int64 → Prop} {n i : Nat} (hn : n ≤ 256) (hi : i < 4) (H : ∀ w, (∀ b : Nat, b < 64 → bv_b w b = decide (64 * i + b < n)) → post w) : wpX_lowMaskAt post () (nI n) (nI i) := by
  have e : (64 : Int32) * nI i = nI (64 * i) := pk_mul 64 i
  have e2 : (nI n - 64 * nI i).toInt = (n : Int) - (64 * i : Nat) := by
    rw [e]
    exact pk_sub_toInt (by omega) (by omega)
  refine bv_lowMask e2 (fun w hw => H w (fun b hb => ?_))
  rw [hw b hb]
  exact decide_eq_decide.mpr (by omega)
/-! windows -/
theorem bv_wordX {post : Int64 → Prop} {f0 f1 f2 : Int32} {a1 a3 a4 a5 a6 : Nat → Int64} {a2 : Nat → Int32} {i : Int32} {I : Int} (hi : i.toInt = I) (H : ∀ w, (∀ j : Nat, j < 64 → bv_b w j = bv_E a3 (64 * I + j)) → post w) : wpX_wordX post (f0, f1, f2, a1, a2, a3, a4, a5, a6) i := by
  have z0 : (0 : Int32).toInt = 0 := by decide
  have z3 : (3 : Int32).toInt = 3 := by decide
  refine br_c (fun h => H 0 (fun j hj => ?_)) (fun h => br_c (fun h3 => ⟨?_, H _ (fun j hj => ?_)⟩) (fun h3 => H 0 (fun j hj => ?_)))
  · rw [bv_lt hi z0] at h
    rw [bv_0, bv_E_out (by omega)]
  · rw [bv_lt hi z0] at h
    rw [bv_le hi z3] at h3
    exact vp_in_iff.mpr ⟨by omega, by omega⟩
  · rw [bv_lt hi z0] at h
    rw [bv_le hi z3] at h3
    have e : i.toNatClampNeg = I.toNat := by rw [← hi]; rfl
    rw [e]
    exact (bv_E_in (by omega) hj (by omega)).symm
  · rw [bv_le hi z3] at h3
    rw [bv_0, bv_E_out (by omega)]
theorem bv_windowX {post : Int64 → Prop} {f0 f1 f2 : Int32} {a1 a3 a4 a5 a6 : Nat → Int64} {a2 : Nat → Int32} {p : Int32} {A : Int} (hA : p.toInt = A) (H : ∀ w, (∀ j : Nat, j < 64 → bv_b w j = bv_E a3 (A + j)) → post w) : wpX_windowX post (f0, f1, f2, a1, a2, a3, a4, a5, a6) p := by
  have r := bv_rg p
  obtain ⟨s, hs, es, eA⟩ := bv_and63 p
  rw [hA] at eA r
  refine nm_e (nm_r es ?_)
  refine bv_wordX (I := A / 64) (by rw [bv_shr6, hA]) (fun w hw => ?_)
  refine pk_eq s 0 (fun z => H w (fun j hj => ?_)) (fun z => ?_)
  · rw [hw j hj]
    congr 1
    omega
  · refine bv_wordX (I := A / 64 + 1) (bv_add (by rw [bv_shr6, hA]) (by decide) (by omega) (by omega)) (fun v hv => H _ (fun j hj => ?_))
    have e64 : (64 : Int32) - nI s = nI (64 - s) := pk_sub (a := 64) (by omega)
    rw [e64, bv_or, bv_ushr s hs, bv_shl (64 - s) (by omega) _ hj]
    rcases Nat.lt_or_ge (s + j) 64 with g | g
    · rw [hw _ g, decide_eq_false (by omega), Bool.false_and, Bool.or_false]
      congr 1
      omega
    · rw [bv_big g, decide_eq_true (by omega), Bool.true_and, Bool.false_or, hv _ (by omega)]
      congr 1
      omega
/-! the loops -/
theorem bv_clearZ {post : St2 → Prop} {f0 f1 f2 : Int32} {a1 a3 a4 a5 a6 : Nat → Int64} {a2 : Nat → Int32} (H : ∀ z : Nat → Int64, (∀ j, j < 4 → z j = 0) → post (f0, f1, f2, a1, a2, a3, a4, z, a6)) : wpX_clearZ post (f0, f1, f2, a1, a2, a3, a4, a5, a6) :=
  pk_loop (fun n i s => wX_clearZ_2 post f0 f1 f2 n (nI i) a1 a2 a3 a4 s a6) (fun i s => ∀ j, j < i → s j = 0) 4 0 a5 (by omega) (fun j hj => absurd hj (by omega))
    (fun n s h => pk_le 4 4 (fun _ => H s h) (fun z => absurd z (by omega)))
    (fun n i s hi h hw => pk_le 4 i (fun z => absurd z (by omega)) (fun _ => ⟨pk_in i 4 hi, nm_e (nm_r (nI_1 i) (hw _ (bv_fill (fun _ y => y = 0) (nI_clamp (by omega)) h rfl)))⟩))
theorem bv_loadX {post : St2 → Prop} {f0 f1 f2 : Int32} {a1 a3 a4 a5 a6 : Nat → Int64} {a2 : Nat → Int32} (H : ∀ x : Nat → Int64, (∀ j, j < 4 → x j = a1 j) → post (a2 0, f1, f2, a1, a2, x, a4, a5, a6)) : wpX_loadX post (f0, f1, f2, a1, a2, a3, a4, a5, a6) 0 := by
  have ei : ∀ i, (0 : Int32) * 4 + nI i = nI i := fun i => by
    have t := bv_ix 0 i
    rw [nI_0, Nat.mul_zero, Nat.zero_add] at t
    exact t
  exact pk_loop (fun n i s => wX_loadX_2 post 0 f0 f1 f2 n (nI i) a1 a2 s a4 a5 a6) (fun i s => ∀ j, j < i → s j = a1 j) 4 0 a3 (by omega) (fun j hj => absurd hj (by omega))
    (fun n s h => pk_le 4 4 (fun _ => ⟨pk_in 0 6 (by omega), nm_e (H s h)⟩) (fun z => absurd z (by omega)))
    (fun n i s hi h hw => pk_le 4 i (fun z => absurd z (by omega)) (fun _ => ⟨pk_in i 24 (by omega) (ei i), pk_in i 4 hi, nm_e (nm_r (nI_1 i) (hw _ (bv_fill (fun j y => y = a1 j) (nI_clamp (by omega)) h (by rw [ei, nI_clamp (by omega)]))))⟩))
theorem bv_storeZ {post : Int32 → St2 → Prop} {f0 f1 : Int32} {a1 a3 a4 a5 a6 : Nat → Int64} {a2 : Nat → Int32} {v n : Nat} (hv : v < 6) (hn : n ≤ 256)
    (H : ∀ w : Nat → Int64, (∀ j b : Nat, j < 4 → b < 64 → bv_b (w (4 * v + j)) b = (decide (64 * j + b < n) && bv_b (a5 j) b)) → (∀ t, t < 4 * v ∨ 4 * v + 4 ≤ t → w t = a1 t) → post (nI n) (f0, f1, nI n, w, upd a2 v (nI n), a3, a4, a5, a6)) :
    wpX_storeZ post (f0, f1, nI n, a1, a2, a3, a4, a5, a6) (nI v) := by
  refine pk_loop (fun k i s => wX_storeZ_2 post (nI v) f0 f1 (nI n) k (nI i) s a2 a3 a4 a5 a6) (fun i s => (∀ j b : Nat, j < i → b < 64 → bv_b (s (4 * v + j)) b = (decide (64 * j + b < n) && bv_b (a5 j) b)) ∧ (∀ t, t < 4 * v ∨ 4 * v + 4 ≤ t → s t = a1 t)) 4 0 a1 (by omega) ⟨fun j b hj => absurd hj (by omega), fun t _ => rfl⟩ ?_ ?_
  · exact fun k s h => pk_le 4 4 (fun _ => ⟨pk_in v 6 hv, nm_r (by rw [nI_clamp (by omega)]) (H s h.1 h.2)⟩) (fun z => absurd z (by omega))
  · intro k i s hi h hw
    refine pk_le 4 i (fun z => absurd z (by omega)) (fun _ => ⟨pk_in i 4 hi, bv_lowMaskAt hn hi (fun m hm => ⟨pk_in (4 * v + i) 24 (by omega) (bv_ix v i), nm_e (nm_r (nI_1 i) (hw _ ⟨fun j b hj hb => ?_, fun t ht => ?_⟩))⟩)⟩)
    · rw [bv_ix, nI_clamp (by omega), nI_clamp (by omega)]
      by_cases e : j = i
      · rw [e, pk_uLs, bv_and, hm b hb, Bool.and_comm]
      · rw [pk_uLn (by omega)]
        exact h.1 j b (by omega) hb
    · rw [bv_ix, nI_clamp (by omega), pk_uLn (by omega)]
      exact h.2 t ht
theorem bv_shift {post : St2 → Prop} {f0 f1 f2 : Int32} {a1 a3 a4 a5 a6 : Nat → Int64} {a2 : Nat → Int32} {k : Int32} {K : Int} (hk : k.toInt = K) (hK : -256 < K ∧ K < 256)
    (H : ∀ z : Nat → Int64, (∀ j, j < 4 → ∀ b : Nat, b < 64 → bv_b (z j) b = bv_E a3 (64 * j + K + b)) → post (f0, f1, f2, a1, a2, a3, a4, z, a6)) : wpX_shift post (f0, f1, f2, a1, a2, a3, a4, a5, a6) k := by
  refine pk_loop (fun n i s => wX_shift_2 post k f0 f1 f2 n (nI i) a1 a2 a3 a4 s a6) (fun i s => ∀ j, j < i → ∀ b : Nat, b < 64 → bv_b (s j) b = bv_E a3 (64 * j + K + b)) 4 0 a5 (by omega) (fun j hj => absurd hj (by omega)) ?_ ?_
  · exact fun n s h => pk_le 4 4 (fun _ => H s h) (fun z => absurd z (by omega))
  · intro n i s hi h hw
    have e : (64 : Int32) * nI i = nI (64 * i) := pk_mul 64 i
    have e2 : ((64 : Int32) * nI i + k).toInt = 64 * i + K := bv_add (by rw [e, nI_toInt (by omega)]; omega) hk (by omega) (by omega)
    exact pk_le 4 i (fun z => absurd z (by omega)) (fun _ => bv_windowX e2 (fun w hw' => ⟨pk_in i 4 hi, nm_e (nm_r (nI_1 i) (hw _ (bv_fill (fun j y => ∀ b : Nat, b < 64 → bv_b y b = bv_E a3 (64 * j + K + b)) (nI_clamp (by omega)) h hw')))⟩))
theorem bv_rotate {post : St2 → Prop} {f1 f2 : Int32} {a1 a3 a4 a5 a6 : Nat → Int64} {a2 : Nat → Int32} {k : Int32} {K : Int} {m : Nat} (h0 : 0 < m) (hm : m ≤ 32) (hk : k.toInt = K)
    (H : ∀ z : Nat → Int64, (∀ b : Nat, b < 64 → bv_b (z 0) b = (bv_E a3 (K % m + b) || bv_E a3 (K % m + b - m))) → post (nI m, f1, f2, a1, a2, a3, a4, z, a6)) : wpX_rotate post (nI m, f1, f2, a1, a2, a3, a4, a5, a6) k := by
  have main : ∀ r : Nat, r < m → (r : Int) = K % m → ∃ n, wX_rotate_28 post (nI r) (nI m) f1 f2 n 0 a1 a2 a3 a4 a5 a6 := by
    intro r hr er
    refine pk_loop (fun n i s => wX_rotate_28 post (nI r) (nI m) f1 f2 n (nI i) a1 a2 a3 a4 s a6) (fun i s => ∀ j, j < i → ∀ b : Nat, b < 64 → bv_b (s j) b = (bv_E a3 (64 * j + r + b) || bv_E a3 (64 * j + r - m + b))) 4 0 a5 (by omega) (fun j hj => absurd hj (by omega)) ?_ ?_
    · refine fun n s h => pk_le 4 4 (fun _ => H s (fun b hb => ?_)) (fun z => absurd z (by omega))
      rw [h 0 (by omega) b hb, ← er]
      congr 2 <;> omega
    · intro n i s hi h hw
      have e : (64 : Int32) * nI i + nI r = nI (64 * i + r) := by rw [← nI_add, ← pk_mul 64 i]; rfl
      have e1 : ((64 : Int32) * nI i + nI r).toInt = 64 * i + r := by rw [e, nI_toInt (by omega)]; omega
      have e2 : ((64 : Int32) * nI i + nI r - nI m).toInt = 64 * i + r - m := bv_sub e1 (nI_toInt (by omega)) (by omega) (by omega)
      refine pk_le 4 i (fun z => absurd z (by omega)) (fun _ => bv_windowX e1 (fun w hw1 => bv_windowX e2 (fun w' hw2 => ⟨pk_in i 4 hi, nm_e (nm_r (nI_1 i) (hw _ (bv_fill (fun j y => ∀ b : Nat, b < 64 → bv_b y b = (bv_E a3 (64 * j + r + b) || bv_E a3 (64 * j + r - m + b))) (nI_clamp (by omega)) h (fun b hb => ?_))))⟩)))
      rw [bv_or, hw1 b hb, hw2 b hb]
  obtain ⟨t, e, t1, t2, t3, t4⟩ := bv_rem k h0 hm
  rw [hk] at t3 t4
  have hne : ¬ nI m = 0 := nI_ne0 h0 (by omega)
  have z0 : (0 : Int32).toInt = 0 := by decide
  refine br_f hne ⟨hne, nm_e (br_c (fun h => ?_) (fun h => nm_e ?_))⟩
  · rw [bv_le z0 e] at h
    rw [bv_of (n := t.toNat) (show (k - k / nI m * nI m).toInt = t.toNat by omega)]
    exact main _ (by omega) (by omega)
  · rw [bv_le z0 e] at h
    have e3 : (k - k / nI m * nI m + nI m).toInt = t + m := bv_add e (nI_toInt (by omega)) (by omega) (by omega)
    rw [bv_of (n := (t + m).toNat) (show (k - k / nI m * nI m + nI m).toInt = (t + m).toNat by omega)]
    exact main _ (by omega) (by omega)
end
section
/-! the vector: element t of the m lowest bits of B -/
def bv_Q (B : Int32) (m : Nat) (t : Int) : Bool := decide (0 ≤ t ∧ t < m) && bv_i B t.toNat
theorem bv_Q_out {B : Int32} {m : Nat} {t : Int} (h : t < 0 ∨ (m : Int) ≤ t) : bv_Q B m t = false := by
  unfold bv_Q
  rw [decide_eq_false (by omega), Bool.false_and]
theorem bv_Q_in {B : Int32} {m b : Nat} (h : b < m) : bv_Q B m b = bv_i B b := by
  unfold bv_Q
  rw [decide_eq_true (by omega), Bool.true_and, Int.toNat_natCast]
theorem bv_rotQ {B : Int32} {m b : Nat} {K : Int} (h0 : 0 < m) (hb : b < m) : (bv_Q B m (K % m + b) || bv_Q B m (K % m + b - m)) = bv_Q B m ((K + b) % m) := by
  have r1 := Int.emod_nonneg K (show (m : Int) ≠ 0 by omega)
  have r2 := Int.emod_lt_of_pos K (show (0 : Int) < m by omega)
  rw [← Int.emod_add_emod]
  by_cases g : K % m + b < m
  · rw [Int.emod_eq_of_lt (a := K % m + b) (by omega) g, bv_Q_out (t := K % m + b - m) (by omega), Bool.or_false]
  · rw [bv_em (K := K % m + b) (m := (m : Int)) (c := 1) (r := K % m + b - m) (by omega) (by omega) (by omega), bv_Q_out (t := K % m + b) (by omega), Bool.false_or]
/-! make and put -/
theorem bv_make {post : Int32 → St2 → Prop} {f0 f1 f2 : Int32} {a1 a3 a4 a5 a6 : Nat → Int64} {a2 : Nat → Int32} {m : Nat} (hm : m ≤ 32)
    (H : ∀ w z : Nat → Int64, (∀ j b : Nat, j < 4 → b < 64 → bv_b (w j) b = false) → post (nI m) (f0, f1, nI m, w, upd a2 0 (nI m), a3, a4, z, a6)) :
    wpX_make post (f0, f1, f2, a1, a2, a3, a4, a5, a6) 0 (nI m) := by
  unfold wpX_make
  refine bv_bad (v := 0) (by omega) (br_t rfl ?_)
  refine (br_f (nI_pos (by omega)) (br_t (nI_le (b := 256) (by omega) (by decide)) (bv_clearZ (fun z hz => bv_storeZ (v := 0) (by omega) (by omega) (fun w hw _ => H w z (fun j b hj hb => ?_))))))
  have t := hw j b hj hb
  rw [Nat.mul_zero, Nat.zero_add, hz j hj, bv_0, Bool.and_false] at t
  exact t
theorem bv_put {post : Int32 → St2 → Prop} {f0 f1 f2 : Int32} {a1 a3 a4 a5 a6 : Nat → Int64} {a2 : Nat → Int32} {m : Nat} {B : Int32} (h0 : 0 < m) (hm : m ≤ 32) (hs : a2 0 = nI m) (hz : ∀ j b : Nat, j < 4 → b < 64 → bv_b (a1 j) b = false)
    (H : ∀ w : Nat → Int64, (∀ t : Int, bv_E w t = bv_Q B m t) → post (nI m) (f0, f1, f2, w, a2, a3, a4, a5, a6)) :
    wpX_put post (f0, f1, f2, a1, a2, a3, a4, a5, a6) 0 0 (nI m) B := by
  unfold wpX_put
  refine bv_bad (v := 0) (by omega) (br_t rfl ?_)
  refine (br_f (nI_nlt (b := 1) (by omega) (by omega)) (br_t (nI_le (b := 32) (by omega) (by decide)) (br_f (by decide) ⟨pk_in 0 6 (by omega), ?_⟩)))
  refine br_t ?_ (bv_lowMask (nI_toInt (n := m) (by omega)) (fun k hk => nm_e (nm_r (e' := nI 0) (by decide) (nm_r (e' := nI 0) (by decide) ⟨pk_in 0 24 (by omega), pk_in 0 24 (by omega), nm_e (br_t ?_ (H _ (fun t => ?_)))⟩))))
  · show (0 : Int32) ≤ a2 0 - nI m
    rw [hs, pk_sub (Nat.le_refl m), Nat.sub_self]
    decide
  · show nI 0 + nI m ≤ nI 64
    rw [nI_add]
    exact nI_le (by omega) (by decide)
  · rw [nI_clamp (n := 0) (by decide)]
    by_cases g : t < 0 ∨ 256 ≤ t
    · rw [bv_E_out g, bv_Q_out (by omega)]
    · obtain ⟨j, b, hj, hb, e⟩ : ∃ j b : Nat, j < 4 ∧ b < 64 ∧ t = 64 * j + b := ⟨t.toNat / 64, t.toNat % 64, by omega, by omega, by omega⟩
      rw [bv_E_in hj hb e]
      by_cases j0 : j = 0
      · rw [j0, pk_uLs, bv_or, bv_and, hz 0 b (by omega) hb, Bool.false_and, Bool.false_or, bv_shl 0 (by omega) _ hb, decide_eq_true (by omega), Bool.true_and, Nat.sub_zero, bv_and, hk b hb]
        by_cases g2 : b < m
        · rw [decide_eq_true (by omega), Bool.and_true, bv_ext B (by omega), show t = (b : Int) by omega, bv_Q_in g2]
        · rw [decide_eq_false (by omega), Bool.and_false, bv_Q_out (by omega)]
      · rw [pk_uLn j0, hz j b hj hb, bv_Q_out (by omega)]
/-! change -/
theorem bv_change {post : Int32 → St2 → Prop} {f0 f1 f2 : Int32} {a1 a3 a4 a5 a6 : Nat → Int64} {a2 : Nat → Int32} {v : Nat} {c k : Int32} (hv : v < 6) (hc0 : ¬ c < 0) (hc8 : c ≤ 8)
    (H : ∀ x z : Nat → Int64, (∀ j, j < 4 → x j = a1 j) → (∀ j, j < 4 → z j = 0) →
      ((c = 4 → ((k < 0 → post (-3) (a2 0, f1, a2 0, a1, a2, x, a4, z, a6)) ∧ (¬ k < 0 → ((k ≤ 256 → wX_change_73 post (nI v) c k (a2 0) f1 k a1 a2 x a4 z a6) ∧ (¬ k ≤ 256 → post (-3) (a2 0, f1, a2 0, a1, a2, x, a4, z, a6)))))) ∧ (¬ c = 4 → wX_change_73 post (nI v) c k (a2 0) f1 (a2 0) a1 a2 x a4 z a6))) :
    wpX_change post (f0, f1, f2, a1, a2, a3, a4, a5, a6) (nI v) c 0 k := by
  unfold wpX_change
  refine bv_bad hv (br_t rfl ?_)
  refine bv_bad (v := 0) (by omega) (br_t rfl ?_)
  exact br_f hc0 (br_t hc8 (bv_loadX (fun x hx => bv_clearZ (fun z hz => H x z hx hz))))
theorem bv_chRot {post : Int32 → St2 → Prop} {f0 f1 f2 : Int32} {a1 a3 a4 a5 a6 : Nat → Int64} {a2 : Nat → Int32} {m : Nat} {B k : Int32} {K : Int} (h0 : 0 < m) (hm : m ≤ 32) (hk : k.toInt = K) (hs : a2 0 = nI m) (hE : ∀ t : Int, bv_E a1 t = bv_Q B m t)
    (H : ∀ (q0 q1 q2 : Int32) (w q3 q4 q5 q6 : Nat → Int64), (∀ b : Nat, b < m → bv_b (w 4) b = bv_Q B m ((K + b) % m)) → (∀ t, t < 4 ∨ 8 ≤ t → w t = a1 t) → post (nI m) (q0, q1, q2, w, upd a2 1 (nI m), q3, q4, q5, q6)) :
    wpX_change post (f0, f1, f2, a1, a2, a3, a4, a5, a6) 1 2 0 k := by
  refine bv_change (v := 1) (by omega) (by decide) (by decide) (fun x z hx hz => br_f (by decide) ?_)
  rw [hs]
  refine br_f (by decide) ?_
  refine br_f (by decide) (br_f (by decide) (br_f (by decide) (br_f (by decide) (br_t rfl ?_))))
  refine bv_rotate h0 hm hk (fun z' hz' => ?_)
  refine bv_storeZ (v := 1) (by omega) (by omega) (fun w hw hw2 => H _ _ _ w _ _ _ _ (fun b hb => ?_) (fun t ht => hw2 t (by omega)))
  have t := hw 0 b (by omega) (by omega)
  rw [decide_eq_true (by omega), Bool.true_and, hz' b (by omega), bv_E_eq hx, bv_E_eq hx, hE, hE, bv_rotQ h0 hb] at t
  exact t
theorem bv_chShift {post : Int32 → St2 → Prop} {f0 f1 f2 : Int32} {a1 a3 a4 a5 a6 : Nat → Int64} {a2 : Nat → Int32} {m : Nat} {B k : Int32} {K : Int} (hm : m ≤ 32) (hk : k.toInt = K) (hs : a2 0 = nI m) (hE : ∀ t : Int, bv_E a1 t = bv_Q B m t)
    (H : ∀ (q0 q1 q2 : Int32) (w q3 q4 q5 q6 : Nat → Int64), (∀ b : Nat, b < m → bv_b (w 8) b = bv_Q B m (K + b)) → (∀ t, t < 8 ∨ 12 ≤ t → w t = a1 t) → post (nI m) (q0, q1, q2, w, upd a2 2 (nI m), q3, q4, q5, q6)) :
    wpX_change post (f0, f1, f2, a1, a2, a3, a4, a5, a6) 2 3 0 k := by
  have zl : (-256 : Int32).toInt = -256 := by decide
  have zh : (256 : Int32).toInt = 256 := by decide
  refine bv_change (v := 2) (by omega) (by decide) (by decide) (fun x z hx hz => br_f (by decide) ?_)
  rw [hs]
  refine br_f (by decide) ?_
  refine br_f (by decide) (br_f (by decide) (br_f (by decide) (br_f (by decide) (br_f (by decide) (br_t rfl (br_c (fun g => ?_) (fun g => br_c (fun g2 => ?_) (fun g2 => ?_))))))))
  · rw [bv_le hk zl] at g
    refine bv_storeZ (v := 2) (by omega) (by omega) (fun w hw hw2 => H _ _ _ w _ _ _ _ (fun b hb => ?_) (fun t ht => hw2 t (by omega)))
    have t := hw 0 b (by omega) (by omega)
    rw [hz 0 (by omega), bv_0, Bool.and_false] at t
    rw [bv_Q_out (by omega)]
    exact t
  · rw [bv_le zh hk] at g2
    refine bv_storeZ (v := 2) (by omega) (by omega) (fun w hw hw2 => H _ _ _ w _ _ _ _ (fun b hb => ?_) (fun t ht => hw2 t (by omega)))
    have t := hw 0 b (by omega) (by omega)
    rw [hz 0 (by omega), bv_0, Bool.and_false] at t
    rw [bv_Q_out (by omega)]
    exact t
  · rw [bv_le hk zl] at g
    rw [bv_le zh hk] at g2
    refine bv_shift hk (by omega) (fun z' hz' => ?_)
    refine bv_storeZ (v := 2) (by omega) (by omega) (fun w hw hw2 => H _ _ _ w _ _ _ _ (fun b hb => ?_) (fun t ht => hw2 t (by omega)))
    have t := hw 0 b (by omega) (by omega)
    rw [decide_eq_true (by omega), Bool.true_and, hz' 0 (by omega) b (by omega), bv_E_eq hx, hE, show 64 * ((0 : Nat) : Int) + K + b = K + b by omega] at t
    exact t
theorem bv_chTake {post : Int32 → St2 → Prop} {f0 f1 f2 : Int32} {a1 a3 a4 a5 a6 : Nat → Int64} {a2 : Nat → Int32} {m : Nat} {B k : Int32} {K : Int} (hk : k.toInt = K) (hE : ∀ t : Int, bv_E a1 t = bv_Q B m t)
    (Hb : (K < 0 ∨ 256 < K) → ∀ (q0 q1 q2 : Int32) (q3 q4 q5 q6 : Nat → Int64), post (-3) (q0, q1, q2, a1, a2, q3, q4, q5, q6))
    (H : ∀ N : Nat, K = N → N ≤ 256 → ∀ (q0 q1 q2 : Int32) (w q3 q4 q5 q6 : Nat → Int64), (∀ t : Nat, t < N → bv_b (w (12 + t / 64)) (t % 64) = bv_Q B m t) → (∀ t, t < 12 ∨ 16 ≤ t → w t = a1 t) → post (nI N) (q0, q1, q2, w, upd a2 3 (nI N), q3, q4, q5, q6)) :
    wpX_change post (f0, f1, f2, a1, a2, a3, a4, a5, a6) 3 4 0 k := by
  have z0 : (0 : Int32).toInt = 0 := by decide
  have zh : (256 : Int32).toInt = 256 := by decide
  refine bv_change (v := 3) (by omega) (by decide) (by decide) (fun x z hx hz => br_t rfl (br_c (fun g => Hb ?_ _ _ _ _ _ _ _) (fun g => br_c (fun g2 => ?_) (fun g2 => Hb ?_ _ _ _ _ _ _ _))))
  · rw [bv_lt hk z0] at g
    exact Or.inl g
  · rw [bv_lt hk z0] at g
    rw [bv_le hk zh] at g2
    obtain ⟨N, eN⟩ : ∃ N : Nat, K = N := ⟨K.toNat, by omega⟩
    rw [bv_of (x := k) (n := N) (by omega)]
    refine br_f (by decide) ?_
    refine br_f (by decide) (br_f (by decide) (br_f (by decide) (br_f (by decide) (br_f (by decide) (br_f (by decide) (br_t rfl ?_))))))
    refine bv_shift z0 (by omega) (fun z' hz' => ?_)
    refine bv_storeZ (v := 3) (by omega) (by omega) (fun w hw hw2 => H N eN (by omega) _ _ _ w _ _ _ _ (fun t ht => ?_) (fun t ht => hw2 t (by omega)))
    have e := hw (t / 64) (t % 64) (by omega) (by omega)
    rw [decide_eq_true (by omega), Bool.true_and, hz' (t / 64) (by omega) (t % 64) (by omega), bv_E_eq hx, hE, show 64 * ((t / 64 : Nat) : Int) + 0 + (t % 64 : Nat) = t by omega] at e
    exact e
  · rw [bv_le hk zh] at g2
    exact Or.inr (by omega)
/-! get and the law's bit -/
def bv_1 (c : Bool) : Int32 := if c = true then 1 else 0
theorem bv_1t {c : Bool} (h : c = true) : bv_1 c = 1 := if_pos h
theorem bv_1f {c : Bool} (h : c = false) : bv_1 c = 0 := by rw [h]; rfl
theorem bv_getv {post : Int32 → Prop} {f0 f1 f2 : Int32} {a1 a3 a4 a5 a6 : Nat → Int64} {a2 : Nat → Int32} {v n : Nat} {i : Int32} {I : Int} (G : Int → Bool) (hv : v < 6) (hn : n ≤ 256) (hi : i.toInt = I) (hs : a2 v = nI n) (hG : ∀ t : Nat, t < n → bv_b (a1 (4 * v + t / 64)) (t % 64) = G t)
    (H : post (bv_1 (decide (0 ≤ I ∧ I < n) && G I))) : wpX_get post (f0, f1, f2, a1, a2, a3, a4, a5, a6) (nI v) i := by
  unfold wpX_get
  refine bv_bad hv (br_t rfl ?_)
  refine (br_c (fun h => ?_) (fun h => ⟨pk_in v 6 hv, ?_⟩))
  · rw [bv_lt hi (show (0 : Int32).toInt = 0 by decide)] at h
    rw [decide_eq_false (by omega), Bool.false_and] at H
    exact H
  · obtain ⟨t, ht, e⟩ := nI_of h
    subst e
    rw [nI_toInt ht] at hi
    subst hi
    have e6 : nI t >>> ((6 : Int32) &&& 31) = nI (t / 64) := pk_shrN ht _ 6 (by decide)
    have e63 : nI t &&& 63 = nI (t % 64) := pk_andN (by omega) 6 (by decide)
    rw [e6, e63, bv_ix, nI_clamp (n := v) (by omega), hs]
    refine pk_lt t n (fun g => ⟨pk_in (4 * v + t / 64) 24 (by omega), ?_⟩) (fun g => ?_)
    · rw [nI_clamp (by omega), bv_get _ (show t % 64 < 64 by omega), hG t g]
      rw [decide_eq_true (by omega), Bool.true_and] at H
      refine br_c (fun z => ?_) (fun z => ?_)
      · rw [bv_1t z] at H
        exact H
      · rw [bv_1f (Bool.eq_false_iff.mpr z)] at H
        exact H
    · rw [decide_eq_false (by omega), Bool.false_and] at H
      exact H
theorem bv_bit {post : Int32 → Prop} {B : Int32} {p : Int64} {P : Int} {m : Nat} (hm : m ≤ 32) (hp : p.toInt = P) (H : post (bv_1 (bv_Q B m P))) : wpL_bit post () B p (nI m) := by
  have z0 : (0 : Int64).toInt = 0 := by decide
  have em : (nI m).toInt64.toInt = m := by rw [Int32.toInt_toInt64, nI_toInt (by omega)]
  refine br_c (fun h => ?_) (fun h => br_c (fun h2 => ?_) (fun h2 => ?_))
  · rw [Int64.lt_iff_toInt_lt, hp, z0] at h
    rw [bv_Q_out (Or.inl h)] at H
    exact H
  · rw [Int64.le_iff_toInt_le, hp, em] at h2
    rw [bv_Q_out (Or.inr h2)] at H
    exact H
  · rw [Int64.lt_iff_toInt_lt, hp, z0] at h
    rw [Int64.le_iff_toInt_le, hp, em] at h2
    obtain ⟨j, rfl⟩ : ∃ j : Nat, P = j := ⟨P.toNat, by omega⟩
    have e : p = lN j := Int64.toInt_inj.mp (by rw [hp, lN_toInt (by omega)])
    rw [bv_Q_in (by omega)] at H
    rw [e, lN_i, bv_iget B (by omega)]
    refine br_c (fun z => ?_) (fun z => ?_)
    · rw [bv_1t z] at H
      exact H
    · rw [bv_1f (Bool.eq_false_iff.mpr z)] at H
      exact H
end
section
/-! the state that the law asks: what the four vectors hold -/
def bv_F (B : Int32) (m N : Nat) (K : Int) (a1 : Nat → Int64) (a2 : Nat → Int32) : Prop :=
  a2 0 = nI m ∧ a2 1 = nI m ∧ a2 2 = nI m ∧ a2 3 = nI N ∧ (∀ t : Nat, t < m → bv_b (a1 (4 * 0 + t / 64)) (t % 64) = bv_Q B m t) ∧ (∀ t : Nat, t < m → bv_b (a1 (4 * 1 + t / 64)) (t % 64) = bv_Q B m ((K + t) % m)) ∧ (∀ t : Nat, t < m → bv_b (a1 (4 * 2 + t / 64)) (t % 64) = bv_Q B m (K + t)) ∧ (∀ t : Nat, t < N → bv_b (a1 (4 * 3 + t / 64)) (t % 64) = bv_Q B m t)
theorem bv_246 {post : Int32 → St0 → Prop} {mc ms kc ks m N : Nat} {K : Int} {B i z0 z1 f0 f1 f2 : Int32} {a1 a3 a4 a5 a6 : Nat → Int64} {a2 : Nat → Int32} (hp : post 1 ()) (hm : m ≤ 32) (F : bv_F B m N K a1 a2) (hz : z1 = z0) :
    wL_lawOf_246 post mc ms B i (nI m) z0 z1 kc ks f0 f1 f2 a1 a2 a3 a4 a5 a6 := by
  refine br_t hz (bv_getv (v := 0) (fun t => bv_Q B m t) (by omega) (by omega) rfl F.1 F.2.2.2.2.1 (bv_bit hm (Int32.toInt_toInt64 i) (br_t ?_ hp)))
  congr 1
  unfold bv_Q
  rw [← Bool.and_assoc, Bool.and_self]
theorem bv_212 {post : Int32 → St0 → Prop} {mc ms kc ks m N : Nat} {K : Int} {B i n z0 z1 f0 f1 f2 : Int32} {a1 a3 a4 a5 a6 : Nat → Int64} {a2 : Nat → Int32} (hp : post 1 ()) (hm : m ≤ 32) (hN : N ≤ 256) (hn : n.toInt = N ∨ (n.toInt < 0 ∧ N = 0)) (F : bv_F B m N K a1 a2) (hz : z1 = z0) :
    wL_lawOf_212 post mc ms B i (nI m) n z0 z1 kc ks f0 f1 f2 a1 a2 a3 a4 a5 a6 := by
  refine br_t hz (bv_getv (v := 3) (fun t => bv_Q B m t) (by omega) hN rfl F.2.2.2.1 F.2.2.2.2.2.2.2 (br_c (fun g => ?_) (fun g => bv_bit hm (Int32.toInt_toInt64 i) (br_c (fun g2 => ?_) (fun g2 => ?_)))))
  · rw [bv_le rfl rfl] at g
    refine bv_246 hp hm F (bv_1f ?_)
    rw [decide_eq_false (by omega), Bool.false_and]
  · refine bv_246 hp hm F ?_
    cases c : bv_Q B m i.toInt
    · exact bv_1f (Bool.and_false _)
    · rw [bv_1t c] at g2
      exact absurd g2 (by decide)
  · refine bv_246 hp hm F ?_
    rw [bv_le rfl rfl] at g
    cases c : bv_Q B m i.toInt
    · exact absurd (bv_1f c) g2
    · have i0 : ¬ i.toInt < 0 := fun h => by
        rw [bv_Q_out (Or.inl h)] at c
        exact absurd c (by decide)
      rw [decide_eq_true (by omega)]
      rfl
theorem bv_178 {post : Int32 → St0 → Prop} {mc ms kc ks m N : Nat} {K : Int} {B k i n x7 z0 z1 f0 f1 f2 : Int32} {a1 a3 a4 a5 a6 : Nat → Int64} {a2 : Nat → Int32} (hp : post 1 ()) (hm : m ≤ 32) (hN : N ≤ 256) (hn : n.toInt = N ∨ (n.toInt < 0 ∧ N = 0)) (hk : k.toInt = K) (F : bv_F B m N K a1 a2)
    (hx : x7 = bv_1 (decide (0 ≤ i.toInt ∧ i.toInt < m))) (hz : z1 = z0) :
    wL_lawOf_178 post mc ms B k i (nI m) n x7 z0 z1 kc ks f0 f1 f2 a1 a2 a3 a4 a5 a6 := by
  refine br_t hz (bv_getv (v := 2) (fun t => bv_Q B m (K + t)) (by omega) (by omega) rfl F.2.2.1 F.2.2.2.2.2.2.1 ?_)
  have es : (i.toInt64 + k.toInt64).toInt = K + i.toInt := by rw [bv_lsum, hk, Int.add_comm]
  cases d : decide (0 ≤ i.toInt ∧ i.toInt < m)
  · rw [d] at hx
    exact br_t hx (bv_212 hp hm hN hn F rfl)
  · rw [d] at hx
    refine br_f (by rw [hx]; decide) (bv_bit hm es (br_c (fun g2 => ?_) (fun g2 => ?_)))
    · exact bv_212 hp hm hN hn F g2
    · refine bv_212 hp hm hN hn F ?_
      show bv_1 (true && bv_Q B m (K + i.toInt)) = 1
      cases c : bv_Q B m (K + i.toInt)
      · exact absurd (bv_1f c) g2
      · rfl
theorem bv_148 {post : Int32 → St0 → Prop} {mc ms kc ks m N : Nat} {K : Int} {B k i n x7 f0 f1 f2 : Int32} {r : Int64} {a1 a3 a4 a5 a6 : Nat → Int64} {a2 : Nat → Int32} (hp : post 1 ()) (hm : m ≤ 32) (hN : N ≤ 256) (hn : n.toInt = N ∨ (n.toInt < 0 ∧ N = 0)) (hk : k.toInt = K) (F : bv_F B m N K a1 a2)
    (hx : x7 = bv_1 (decide (0 ≤ i.toInt ∧ i.toInt < m))) (hr : r.toInt = (K + i.toInt) % m) :
    wL_lawOf_148 post mc ms B k i (nI m) n x7 r kc ks f0 f1 f2 a1 a2 a3 a4 a5 a6 := by
  refine bv_getv (v := 1) (fun t => bv_Q B m ((K + t) % m)) (by omega) (by omega) rfl F.2.1 F.2.2.2.2.2.1 ?_
  cases d : decide (0 ≤ i.toInt ∧ i.toInt < m)
  · have hx' := hx
    rw [d] at hx'
    exact br_t hx' (bv_178 hp hm hN hn hk F hx rfl)
  · have hx' := hx
    rw [d] at hx'
    refine br_f (by rw [hx']; decide) (bv_bit hm hr (br_c (fun g2 => ?_) (fun g2 => ?_)))
    · exact bv_178 hp hm hN hn hk F hx g2
    · refine bv_178 hp hm hN hn hk F hx ?_
      show bv_1 (true && bv_Q B m ((K + i.toInt) % m)) = 1
      cases c : bv_Q B m ((K + i.toInt) % m)
      · exact absurd (bv_1f c) g2
      · rfl
theorem bv_117 {post : Int32 → St0 → Prop} {mc ms kc ks m N : Nat} {K : Int} {B k i n x7 f0 f1 f2 : Int32} {a1 a3 a4 a5 a6 : Nat → Int64} {a2 : Nat → Int32} (hp : post 1 ()) (h0 : 0 < m) (hm : m ≤ 32) (hN : N ≤ 256) (hn : n.toInt = N ∨ (n.toInt < 0 ∧ N = 0)) (hk : k.toInt = K) (F : bv_F B m N K a1 a2)
    (hx : x7 = bv_1 (decide (0 ≤ i.toInt ∧ i.toInt < m))) :
    wL_lawOf_117 post mc ms B k i (nI m) n x7 kc ks f0 f1 f2 a1 a2 a3 a4 a5 a6 := by
  have z0 : (0 : Int64).toInt = 0 := by decide
  have em : (nI m).toInt64 = lN m := nI_l (by omega)
  have es : (i.toInt64 + k.toInt64).toInt = K + i.toInt := by rw [bv_lsum, hk, Int.add_comm]
  obtain ⟨t, e, t1, t2, t3, t4⟩ := bv_lrem (i.toInt64 + k.toInt64) h0 hm
  rw [es] at t3 t4
  have hne : ¬ (nI m).toInt64 = 0 := by
    rw [em, ← Int64.toInt_inj, lN_toInt (by omega), z0]
    omega
  refine ⟨hne, nm_r (e' := (i.toInt64 + k.toInt64) - (i.toInt64 + k.toInt64) / lN m * lN m) (by rw [em]) (br_c (fun g => ?_) (fun g => ?_))⟩
  · rw [Int64.le_iff_toInt_le, z0, e] at g
    exact bv_148 hp hm hN hn hk F hx (by rw [e]; exact t3 g)
  · rw [Int64.le_iff_toInt_le, z0, e] at g
    refine bv_148 hp hm hN hn hk F hx ?_
    rw [Int64.toInt_add, e, em, lN_toInt (by omega), ← t4 (by omega)]
    exact Int.bmod_eq_of_le (by omega) (by omega)
theorem bv_84 {post : Int32 → St0 → Prop} {mc ms kc ks m : Nat} {K : Int} {B k i n f0 f1 f2 : Int32} {a1 a3 a4 a5 a6 : Nat → Int64} {a2 : Nat → Int32} (hp : post 1 ()) (h0 : 0 < m) (hm : m ≤ 32) (hk : k.toInt = K) (hn : ((K < 0 ∨ 256 < K) ∧ n = -3) ∨ (0 ≤ K ∧ K ≤ 256 ∧ n = k))
    (s0 : a2 0 = nI m) (s1 : a2 1 = nI m) (s2 : a2 2 = nI m) (s3 : a2 3 = nI 0) (hE : ∀ t : Int, bv_E a1 t = bv_Q B m t) (hR : ∀ b : Nat, b < m → bv_b (a1 4) b = bv_Q B m ((K + b) % m)) (hS : ∀ b : Nat, b < m → bv_b (a1 8) b = bv_Q B m (K + b)) :
    wL_lawOf_84 post mc ms B k i (nI m) n kc ks f0 f1 f2 a1 a2 a3 a4 a5 a6 := by
  have z0 : (0 : Int32).toInt = 0 := by decide
  have tail : ∀ (N : Nat) (q0 q1 q2 : Int32) (w : Nat → Int64) (s : Nat → Int32) (q3 q4 q5 q6 : Nat → Int64), N ≤ 256 → (n.toInt = N ∨ (n.toInt < 0 ∧ N = 0)) → bv_F B m N K w s →
      ((i < 0 → wL_lawOf_116 post mc ms B k i (nI m) n kc ks q0 q1 q2 w s q3 q4 q5 q6) ∧ (¬ i < 0 → ((nI m ≤ i → wL_lawOf_116 post mc ms B k i (nI m) n kc ks q0 q1 q2 w s q3 q4 q5 q6) ∧ (¬ nI m ≤ i → wL_lawOf_117 post mc ms B k i (nI m) n 1 kc ks q0 q1 q2 w s q3 q4 q5 q6)))) := by
    intro N q0 q1 q2 w s q3 q4 q5 q6 hN hn' F
    refine br_c (fun g => ?_) (fun g => br_c (fun g2 => ?_) (fun g2 => ?_))
    · rw [bv_lt rfl z0] at g
      exact bv_117 hp h0 hm hN hn' hk F (bv_1f (decide_eq_false (by omega))).symm
    · rw [bv_le (nI_toInt (by omega)) rfl] at g2
      exact bv_117 hp h0 hm hN hn' hk F (bv_1f (decide_eq_false (by omega))).symm
    · rw [bv_lt rfl z0] at g
      rw [bv_le (nI_toInt (by omega)) rfl] at g2
      exact bv_117 hp h0 hm hN hn' hk F (bv_1t (decide_eq_true (by omega))).symm
  have low : ∀ (w : Nat → Int64), (∀ t, t < 12 ∨ 16 ≤ t → w t = a1 t) → (∀ t : Nat, t < m → bv_b (w (4 * 0 + t / 64)) (t % 64) = bv_Q B m t) ∧ (∀ t : Nat, t < m → bv_b (w (4 * 1 + t / 64)) (t % 64) = bv_Q B m ((K + t) % m)) ∧ (∀ t : Nat, t < m → bv_b (w (4 * 2 + t / 64)) (t % 64) = bv_Q B m (K + t)) := by
    intro w hw
    refine ⟨fun t ht => ?_, fun t ht => ?_, fun t ht => ?_⟩
    · rw [show 4 * 0 + t / 64 = 0 by omega, show t % 64 = t by omega, hw 0 (by omega), ← hE]
      exact (bv_E_in (by omega) (by omega) (by omega)).symm
    · rw [show 4 * 1 + t / 64 = 4 by omega, show t % 64 = t by omega, hw 4 (by omega)]
      exact hR t ht
    · rw [show 4 * 2 + t / 64 = 8 by omega, show t % 64 = t by omega, hw 8 (by omega)]
      exact hS t ht
  refine bv_chTake hk hE (fun hb q0 q1 q2 q3 q4 q5 q6 => br_t ?_ (tail 0 q0 q1 q2 a1 a2 q3 q4 q5 q6 (by omega) ?_ ?_)) (fun N eN hN q0 q1 q2 w q3 q4 q5 q6 hT hw => br_t ?_ (tail N q0 q1 q2 w _ q3 q4 q5 q6 hN ?_ ?_))
  · rcases hn with h | h
    · exact h.2.symm
    · omega
  · rcases hn with h | h
    · refine Or.inr ⟨?_, rfl⟩
      rw [h.2]
      decide
    · omega
  · obtain ⟨l0, l1, l2⟩ := low a1 (fun _ _ => rfl)
    exact ⟨s0, s1, s2, s3, l0, l1, l2, fun t ht => absurd ht (by omega)⟩
  · rcases hn with h | h
    · omega
    · rw [h.2.2]
      exact (bv_of (by omega)).symm
  · rcases hn with h | h
    · omega
    · refine Or.inl ?_
      rw [h.2.2]
      omega
  · obtain ⟨l0, l1, l2⟩ := low w hw
    exact ⟨by rw [pk_un (by decide)]; exact s0, by rw [pk_un (by decide)]; exact s1, by rw [pk_un (by decide)]; exact s2, pk_us, l0, l1, l2, hT⟩
theorem bv_lawOf {post : Int32 → St0 → Prop} {p0 p1 p2 p3 : Int32} (hp : post 1 ()) : wpL_lawOf post 7 57 () p0 p1 p2 p3 := by
  have z0 : (0 : Int32).toInt = 0 := by decide
  have zh : (256 : Int32).toInt = 256 := by decide
  obtain ⟨j, hj, ej⟩ := pk_andE p0 (m := 31) 5 (by decide)
  have em : 1 + (p0 &&& 31) = nI (1 + j) := by rw [ej]; exact nI_add 1 j
  have hm : 1 + j ≤ 32 := by omega
  have h0 : 0 < 1 + j := by omega
  refine ⟨by omega, by omega, 6, 48, by omega, by omega, ⟨by omega, by omega, by omega, by omega, by omega, by omega, by omega, by omega, by omega, by omega, by omega, by omega, ?_⟩⟩
  refine nm_r em ?_
  generalize 1 + j = m at hm h0
  refine bv_make hm (fun w z hz => ?_)
  refine bv_put h0 hm pk_us hz (fun w1 hE => ?_)
  refine bv_chRot h0 hm rfl pk_us hE (fun q0 q1 q2 w2 q3 q4 q5 q6 hR hw2 => br_t rfl ?_)
  have hE2 : ∀ t : Int, bv_E w2 t = bv_Q p1 m t := fun t => by
    rw [bv_E_eq (fun j hj => hw2 j (by omega)), hE]
  refine bv_chShift hm rfl (by rw [pk_un (by decide)]; exact pk_us) hE2 (fun u0 u1 u2 w3 u3 u4 u5 u6 hS hw3 => br_t rfl ?_)
  have hE3 : ∀ t : Int, bv_E w3 t = bv_Q p1 m t := fun t => by
    rw [bv_E_eq (fun j hj => hw3 j (by omega)), hE2]
  have hR3 : ∀ b : Nat, b < m → bv_b (w3 4) b = bv_Q p1 m ((p2.toInt + b) % m) := fun b hb => by
    rw [hw3 4 (by omega)]
    exact hR b hb
  have key : ∀ n : Int32, (((p2.toInt < 0 ∨ 256 < p2.toInt) ∧ n = -3) ∨ (0 ≤ p2.toInt ∧ p2.toInt ≤ 256 ∧ n = p2)) → wL_lawOf_84 post 7 57 p1 p2 p3 (nI m) n (1 + 6) (9 + 48) u0 u1 u2 w3 (upd (upd (upd (fun _ => 0) 0 (nI m)) 1 (nI m)) 2 (nI m)) u3 u4 u5 u6 := fun n hn =>
    bv_84 hp h0 hm rfl hn rfl rfl rfl rfl hE3 hR3 hS
  refine br_c (fun g => ?_) (fun g => br_c (fun g2 => ?_) (fun g2 => ?_))
  · rw [bv_lt rfl z0] at g
    exact key (-3) (Or.inl ⟨Or.inl g, rfl⟩)
  · rw [bv_lt zh rfl] at g2
    exact key (-3) (Or.inl ⟨Or.inr g2, rfl⟩)
  · rw [bv_lt rfl z0] at g
    rw [bv_lt zh rfl] at g2
    exact key p2 (Or.inr ⟨by omega, by omega, rfl⟩)
theorem bv_cell {post : Int32 → Prop} {L : Nat} {xs : Nat → Int32} (hL : L ≤ 4) (c : Nat) (hc : c < 4) (H : ∀ x, post x) : wpL_cellAt post L xs () (nI c) :=
  pk_le L c (fun _ => H _) (fun g => ⟨pk_in c L g, H _⟩)
theorem i_vc (xs : Nat → Int32) (L : Nat) (hL : L ≤ 4) : wpL_law (fun r => r = 1) L xs :=
  bv_cell hL 0 (by omega) (fun a => bv_cell hL 1 (by omega) (fun b => bv_cell hL 2 (by omega) (fun c => bv_cell hL 3 (by omega) (fun d => ⟨7, 57, by omega, by omega, bv_lawOf rfl⟩))))
end
