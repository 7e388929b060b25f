section
/-! ===== the step on naturals below 65536, and its iterates ===== -/
def jg_A (x : Nat) : Nat := x ^^^ (x * 2 ^ 7 % 2 ^ 16)
def jg_B (x : Nat) : Nat := x ^^^ (x / 2 ^ 9)
def jg_C (x : Nat) : Nat := x ^^^ (x * 2 ^ 8 % 2 ^ 16)
def jg_T (x : Nat) : Nat := jg_C (jg_B (jg_A x))
def jg_it : Nat → Nat → Nat
  | 0, x => x
  | n + 1, x => jg_T (jg_it n x)
theorem jg_x4 (a b c d : Nat) : (a ^^^ b) ^^^ (c ^^^ d) = (a ^^^ c) ^^^ (b ^^^ d) := by
  rw [Nat.xor_assoc, Nat.xor_assoc, ← Nat.xor_assoc b c d, Nat.xor_comm b c, Nat.xor_assoc c b d]
theorem jg_mulx (a b k : Nat) : (a ^^^ b) * 2 ^ k = a * 2 ^ k ^^^ b * 2 ^ k := by
  rw [← Nat.shiftLeft_eq, ← Nat.shiftLeft_eq, ← Nat.shiftLeft_eq, Nat.shiftLeft_xor_distrib]
theorem jg_Ax (a b : Nat) : jg_A (a ^^^ b) = jg_A a ^^^ jg_A b := by
  unfold jg_A
  rw [jg_mulx, Nat.xor_mod_two_pow, jg_x4]
theorem jg_Bx (a b : Nat) : jg_B (a ^^^ b) = jg_B a ^^^ jg_B b := by
  unfold jg_B
  rw [Nat.xor_div_two_pow, jg_x4]
theorem jg_Cx (a b : Nat) : jg_C (a ^^^ b) = jg_C a ^^^ jg_C b := by
  unfold jg_C
  rw [jg_mulx, Nat.xor_mod_two_pow, jg_x4]
theorem jg_Tx (a b : Nat) : jg_T (a ^^^ b) = jg_T a ^^^ jg_T b := by
  unfold jg_T
  rw [jg_Ax, jg_Bx, jg_Cx]
theorem jg_xlt {a b : Nat} (ha : a < 65536) (hb : b < 65536) : a ^^^ b < 65536 := Nat.xor_lt_two_pow (n := 16) ha hb
theorem jg_Alt {x : Nat} (h : x < 65536) : jg_A x < 65536 := jg_xlt h (Nat.mod_lt _ (by decide))
theorem jg_Blt {x : Nat} (h : x < 65536) : jg_B x < 65536 := jg_xlt h (Nat.lt_of_le_of_lt (Nat.div_le_self _ _) h)
theorem jg_Clt {x : Nat} (h : x < 65536) : jg_C x < 65536 := jg_xlt h (Nat.mod_lt _ (by decide))
theorem jg_Tlt {x : Nat} (h : x < 65536) : jg_T x < 65536 := jg_Clt (jg_Blt (jg_Alt h))
theorem jg_it_lt (n : Nat) {x : Nat} (h : x < 65536) : jg_it n x < 65536 := by
  induction n with
  | zero => exact h
  | succ n ih => exact jg_Tlt ih
theorem jg_it_x (n a b : Nat) : jg_it n (a ^^^ b) = jg_it n a ^^^ jg_it n b := by
  induction n with
  | zero => rfl
  | succ n ih =>
    show jg_T (jg_it n (a ^^^ b)) = jg_T (jg_it n a) ^^^ jg_T (jg_it n b)
    rw [ih, jg_Tx]
theorem jg_it_add (m n x : Nat) : jg_it (m + n) x = jg_it m (jg_it n x) := by
  induction m with
  | zero => rw [Nat.zero_add]; rfl
  | succ m ih =>
    rw [show m + 1 + n = (m + n) + 1 by omega]
    show jg_T (jg_it (m + n) x) = jg_T (jg_it m (jg_it n x))
    rw [ih]
theorem jg_it_0 (n : Nat) : jg_it n 0 = 0 := by
  induction n with
  | zero => rfl
  | succ n ih =>
    show jg_T (jg_it n 0) = 0
    rw [ih]
    decide
/-! ===== bits ===== -/
theorem jg_mod_t {x i : Nat} (h : x.testBit i = true) : x % 2 ^ (i + 1) = x % 2 ^ i ^^^ 2 ^ i := by
  apply Nat.eq_of_testBit_eq
  intro j
  rw [Nat.testBit_xor, Nat.testBit_mod_two_pow, Nat.testBit_mod_two_pow, Nat.testBit_two_pow]
  rcases Nat.lt_trichotomy j i with g | g | g
  · rw [decide_eq_true (show j < i + 1 by omega), decide_eq_true g, decide_eq_false (show ¬ i = j by omega)]
    cases x.testBit j <;> rfl
  · subst g
    rw [decide_eq_true (show j < j + 1 by omega), decide_eq_false (show ¬ j < j by omega), decide_eq_true (show j = j from rfl), h]
    rfl
  · rw [decide_eq_false (show ¬ j < i + 1 by omega), decide_eq_false (show ¬ j < i by omega), decide_eq_false (show ¬ i = j by omega)]
    cases x.testBit j <;> rfl
theorem jg_mod_f {x i : Nat} (h : x.testBit i = false) : x % 2 ^ (i + 1) = x % 2 ^ i := by
  apply Nat.eq_of_testBit_eq
  intro j
  rw [Nat.testBit_mod_two_pow, Nat.testBit_mod_two_pow]
  rcases Nat.lt_trichotomy j i with g | g | g
  · rw [decide_eq_true (show j < i + 1 by omega), decide_eq_true g]
  · subst g
    rw [h, Bool.and_false, Bool.and_false]
  · rw [decide_eq_false (show ¬ j < i + 1 by omega), decide_eq_false (show ¬ j < i by omega)]
/-- the exclusive sum of f over the bits of x below i -/
def jg_ac (f : Nat → Nat) (x : Nat) : Nat → Nat
  | 0 => 0
  | i + 1 => if x.testBit i = true then jg_ac f x i ^^^ f i else jg_ac f x i
theorem jg_ac_it {f : Nat → Nat} {m : Nat} (hf : ∀ j, j < 16 → f j = jg_it m (2 ^ j)) (x : Nat) : ∀ i, i ≤ 16 → jg_ac f x i = jg_it m (x % 2 ^ i) := by
  intro i
  induction i with
  | zero =>
    intro _
    rw [Nat.pow_zero, Nat.mod_one, jg_it_0]
    rfl
  | succ i ih =>
    intro hi
    show (if x.testBit i = true then jg_ac f x i ^^^ f i else jg_ac f x i) = _
    by_cases h : x.testBit i = true
    · rw [if_pos h, ih (by omega), hf i (by omega), jg_mod_t h, jg_it_x]
    · rw [if_neg h, ih (by omega), jg_mod_f (Bool.eq_false_iff.mpr h)]
/-! ===== what bit i becomes after 2^k steps, as numbers (printed by wip's tab.py) ===== -/
def jg_tab (k i : Nat) : Nat := ((([
  [33153, 770, 1797, 3594, 7188, 14376, 28752, 57504, 49472, 769, 1538, 3076, 6152, 12304, 24608, 49216],
  [24609, 49475, 17095, 1039, 2335, 4670, 9340, 18680, 4464, 17344, 1537, 3331, 6662, 13324, 26648, 53296],
  [11787, 11334, 42233, 57771, 62150, 50540, 19352, 5809, 13355, 22060, 9696, 47888, 55105, 28355, 23559, 47375],
  [17913, 13076, 22287, 36827, 57136, 16229, 32972, 43933, 47848, 30900, 59213, 11100, 4157, 42364, 45826, 51369],
  [61313, 65314, 10263, 52147, 34190, 5715, 15148, 27989, 46575, 12760, 58919, 52052, 27973, 34877, 36000, 3629],
  [8480, 10176, 65107, 9157, 11318, 5307, 24556, 58677, 2992, 18643, 62376, 23387, 24763, 23169, 22616, 1757],
  [17802, 20627, 61861, 31816, 4972, 27534, 41095, 7138, 50560, 37644, 62871, 30244, 64068, 61310, 13223, 53538],
  [13449, 54388, 63100, 31201, 59948, 15085, 49410, 23188, 51568, 61447, 11162, 55853, 17333, 56799, 55142, 58972],
  [41484, 48810, 60051, 53155, 29631, 44591, 11326, 63549, 13220, 47569, 9128, 55644, 42673, 21650, 47493, 37835],
  [23480, 1494, 35189, 4219, 56808, 5061, 59500, 23453, 50391, 36512, 18262, 7350, 55937, 2484, 15282, 47113],
  [12857, 24891, 38116, 45781, 30274, 61898, 62494, 62257, 32239, 9489, 36788, 39026, 51977, 50340, 5522, 15433],
  [11736, 51846, 6901, 49477, 9663, 36696, 39050, 52025, 62400, 29316, 37676, 32159, 27067, 12400, 56602, 27801],
  [39498, 42450, 43225, 60900, 3500, 32542, 47175, 2850, 15039, 10137, 53390, 19402, 9456, 27558, 60215, 450],
  [47376, 39758, 59593, 17418, 37114, 53056, 10840, 35872, 8240, 55086, 9672, 18056, 31487, 44874, 12876, 11272],
  [4095, 64180, 44260, 51392, 28785, 41026, 49220, 32776, 61680, 20128, 18624, 2176, 256, 57856, 33792, 34816],
  [65280, 22015, 26282, 17612, 30856, 20720, 24736, 16576, 32639, 43690, 52428, 34952, 61680, 41120, 49344, 32896],
  [33153, 770, 1797, 3594, 7188, 14376, 28752, 57504, 49472, 769, 1538, 3076, 6152, 12304, 24608, 49216]
  ] : List (List Nat)).getD k []).getD i 0)
theorem jg_tab0 : ∀ i, i < 16 → jg_tab 0 i = jg_T (2 ^ i) := by decide +kernel
theorem jg_tabS : ∀ k, k < 16 → ∀ i, i < 16 → jg_ac (fun j => jg_tab k j) (jg_tab k i) 16 = jg_tab (k + 1) i := by decide +kernel
theorem jg_tabE : ∀ i, i < 16 → jg_tab 16 i = jg_T (2 ^ i) := by decide +kernel
theorem jg_tab_it : ∀ k, k ≤ 16 → ∀ i, i < 16 → jg_tab k i = jg_it (2 ^ k) (2 ^ i) := by
  intro k
  induction k with
  | zero =>
    intro _ i hi
    rw [jg_tab0 i hi]
    rfl
  | succ k ih =>
    intro hk i hi
    have hp : 2 ^ i < 65536 := Nat.pow_lt_pow_right (a := 2) (by decide) hi
    have hl : jg_tab k i < 65536 := by rw [ih (by omega) i hi]; exact jg_it_lt _ hp
    rw [← jg_tabS k (by omega) i hi, jg_ac_it (fun j hj => ih (by omega) j hj) _ 16 (Nat.le_refl _), Nat.mod_eq_of_lt (b := 2 ^ 16) hl, ih (by omega) i hi, ← jg_it_add]
    exact congrArg (fun z => jg_it z (2 ^ i)) (by rw [Nat.pow_succ]; omega)
theorem jg_lin {m : Nat} (hm : ∀ j, j < 16 → jg_it m (2 ^ j) = jg_T (2 ^ j)) (x : Nat) : ∀ i, i ≤ 16 → jg_it m (x % 2 ^ i) = jg_T (x % 2 ^ i) := by
  intro i
  induction i with
  | zero =>
    intro _
    rw [Nat.pow_zero, Nat.mod_one, jg_it_0]
    decide
  | succ i ih =>
    intro hi
    by_cases h : x.testBit i = true
    · rw [jg_mod_t h, jg_it_x, jg_Tx, ih (by omega), hm i (by omega)]
    · rw [jg_mod_f (Bool.eq_false_iff.mpr h), ih (by omega)]
theorem jg_xeq {a b : Nat} (h : a ^^^ b = 0) : a = b := by
  have e : (a ^^^ b) ^^^ b = 0 ^^^ b := by rw [h]
  rw [Nat.xor_assoc, Nat.xor_self, Nat.xor_zero, Nat.zero_xor] at e
  exact e
theorem jg_Aker {x : Nat} (hx : x < 65536) (h : jg_A x = 0) : x = 0 := by
  have e := jg_xeq (show x ^^^ (x * 2 ^ 7 % 2 ^ 16) = 0 from h)
  omega
theorem jg_Bker {x : Nat} (h : jg_B x = 0) : x = 0 := by
  have e := jg_xeq (show x ^^^ (x / 2 ^ 9) = 0 from h)
  omega
theorem jg_Cker {x : Nat} (hx : x < 65536) (h : jg_C x = 0) : x = 0 := by
  have e := jg_xeq (show x ^^^ (x * 2 ^ 8 % 2 ^ 16) = 0 from h)
  omega
theorem jg_Tker {x : Nat} (hx : x < 65536) (h : jg_T x = 0) : x = 0 := jg_Aker hx (jg_Bker (jg_Cker (jg_Blt (jg_Alt hx)) h))
theorem jg_cyc1 {N : Nat} (hN : 1 + N = 2 ^ 16) {x : Nat} (hx : x < 65536) : jg_it N x = x := by
  have h1 : ∀ j, j < 16 → jg_it (1 + N) (2 ^ j) = jg_T (2 ^ j) := by
    intro j hj
    rw [hN, ← jg_tab_it 16 (Nat.le_refl _) j hj]
    exact jg_tabE j hj
  have h2 := jg_lin h1 x 16 (Nat.le_refl _)
  rw [Nat.mod_eq_of_lt (b := 2 ^ 16) hx, jg_it_add] at h2
  have h3 : jg_T (jg_it N x) = jg_T x := h2
  apply jg_xeq
  apply jg_Tker (jg_xlt (jg_it_lt N hx) hx)
  rw [jg_Tx, h3, Nat.xor_self]
theorem jg_cyc {x : Nat} (hx : x < 65536) : jg_it 65535 x = x := jg_cyc1 (by decide) hx
theorem jg_cycq (q r : Nat) {x : Nat} (hx : x < 65536) : jg_it (65535 * q + r) x = jg_it r x := by
  induction q with
  | zero => rw [Nat.mul_zero, Nat.zero_add]
  | succ q ih =>
    rw [show 65535 * (q + 1) + r = 65535 + (65535 * q + r) by omega, jg_it_add, ih]
    exact jg_cyc (jg_it_lt r hx)
theorem jg_it_mod (n : Nat) {x : Nat} (hx : x < 65536) : jg_it n x = jg_it (n % 65535) x := by
  have h := jg_cycq (n / 65535) (n % 65535) hx
  rw [Nat.div_add_mod] at h
  exact h
theorem jg_cong {a b x : Nat} (hx : x < 65536) (h : a % 65535 = b % 65535) : jg_it a x = jg_it b x := by
  rw [jg_it_mod a hx, jg_it_mod b hx, h]
theorem jg_back {a b x : Nat} (hx : x < 65536) (h : (a + b) % 65535 = 0) : jg_it a (jg_it b x) = x := by
  rw [← jg_it_add, jg_it_mod _ hx, h]
  rfl
theorem jg_inj {j a b : Nat} (ha : a < 65536) (hb : b < 65536) (h : jg_it j a = jg_it j b) : a = b := by
  rw [← jg_back (a := 65534 * j) (b := j) ha (by omega), h, jg_back hb (by omega)]
theorem jg_pos (j : Nat) {x : Nat} (h0 : 0 < x) (hx : x < 65536) : 0 < jg_it j x := by
  rcases Nat.eq_zero_or_pos (jg_it j x) with h | h
  · have e : x = 0 := jg_inj (j := j) hx (by decide) (by rw [h, jg_it_0])
    omega
  · exact h
/-! ===== rows of states ===== -/
def jg_mx (s : Nat) : Nat → Nat
  | 0 => 0
  | n + 1 => jg_mx s n ^^^ jg_it n s
theorem jg_mx_lt {s : Nat} (hs : s < 65536) (n : Nat) : jg_mx s n < 65536 := by
  induction n with
  | zero => exact (by decide : 0 < 65536)
  | succ n ih => exact jg_xlt ih (jg_it_lt n hs)
theorem jg_mx_add (s m n : Nat) : jg_mx s (m + n) = jg_mx s m ^^^ jg_it m (jg_mx s n) := by
  induction n with
  | zero =>
    show jg_mx s m = jg_mx s m ^^^ jg_it m 0
    rw [jg_it_0, Nat.xor_zero]
  | succ n ih =>
    show jg_mx s (m + n) ^^^ jg_it (m + n) s = jg_mx s m ^^^ jg_it m (jg_mx s n ^^^ jg_it n s)
    rw [ih, jg_it_x, jg_it_add, Nat.xor_assoc]
end
section
/-! ===== Int32 against naturals (nx_xor and s_l: kit/laws/BITS.to-paste) ===== -/
theorem jg_sl : ∀ n, n < 32 → ((nI n &&& 31).toBitVec.smod 32).toNat = n := by decide +kernel
theorem jg_nx (a b : Nat) : nI a ^^^ nI b = nI (a ^^^ b) := by
  apply Int32.toBitVec_inj.1
  show BitVec.ofNat 32 a ^^^ BitVec.ofNat 32 b = BitVec.ofNat 32 (a ^^^ b)
  apply BitVec.eq_of_getLsbD_eq
  intro i hi
  simp [hi]
theorem jg_one {i : Nat} (hi : i < 16) : (1 : Int32) <<< (nI i &&& 31) = nI (2 ^ i) := by
  have hp : 2 ^ i < 65536 := Nat.pow_lt_pow_right (a := 2) (by decide) hi
  have h := pk_shlN (n := 1) (nI i &&& 31) i (jg_sl i (by omega)) (by omega)
  rw [Nat.one_mul] at h
  exact h
theorem jg_shr {m i : Nat} (hm : m < 2 ^ 31) (hi : i < 32) : (nI m >>> (nI i &&& 31)) &&& 1 = nI (m / 2 ^ i % 2) := by
  have h2 : m / 2 ^ i ≤ m := Nat.div_le_self _ _
  rw [pk_shrN hm _ i (jg_sl i hi), pk_andN (n := m / 2 ^ i) (by omega) (m := 1) 1 (by decide)]
theorem jg_bt {m i : Nat} (hm : m < 2 ^ 31) (hi : i < 32) (h : m.testBit i = true) : ¬ (nI m >>> (nI i &&& 31)) &&& 1 = 0 := by
  rw [Nat.testBit_eq_decide_div_mod_eq, decide_eq_true_eq] at h
  rw [jg_shr hm hi, h]
  decide
theorem jg_bf {m i : Nat} (hm : m < 2 ^ 31) (hi : i < 32) (h : ¬ m.testBit i = true) : (nI m >>> (nI i &&& 31)) &&& 1 = 0 := by
  rw [Nat.testBit_eq_decide_div_mod_eq, decide_eq_true_eq] at h
  rw [jg_shr hm hi, show m / 2 ^ i % 2 = 0 by omega]
  rfl
theorem jg_ix (k i : Nat) : nI k * 16 + nI i = nI (k * 16 + i) := by
  show nI k * nI 16 + nI i = _
  rw [pk_mul, nI_add]
theorem jg_stepI {x : Nat} (hx : x < 65536) {x1 x2 : Int32} (h1 : x1 = nI x ^^^ ((nI x <<< ((7 : Int32) &&& 31)) &&& 65535)) (h2 : x2 = x1 ^^^ (x1 >>> ((9 : Int32) &&& 31))) : x2 ^^^ ((x2 <<< ((8 : Int32) &&& 31)) &&& 65535) = nI (jg_T x) := by
  have e1 : x1 = nI (jg_A x) := by
    rw [h1, pk_shlN (n := x) ((7 : Int32) &&& 31) 7 (by decide) (by omega), pk_andN (by omega) 16 (by decide), jg_nx]
    rfl
  have hA := jg_Alt hx
  have e2 : x2 = nI (jg_B (jg_A x)) := by
    rw [h2, e1, pk_shrN (by omega) ((9 : Int32) &&& 31) 9 (by decide), jg_nx]
    rfl
  have hB := jg_Blt hA
  rw [e2, pk_shlN ((8 : Int32) &&& 31) 8 (by decide) (by omega), pk_andN (by omega) 16 (by decide), jg_nx]
  rfl
theorem jg_step {post : Int32 → Prop} {u : St2} {x : Nat} (hx : x < 65536) (H : post (nI (jg_T x))) : wpX_step post u (nI x) := by
  intro x1 h1 x2 h2
  rw [jg_stepI hx h1 h2]
  exact H
/-! ===== the table ===== -/
def jg_row (a : Nat → Int32) (k : Nat) : Prop := ∀ i, i < 16 → a (k * 16 + i) = nI (jg_it (2 ^ k) (2 ^ i))
theorem jg_apply {post : Int32 → Prop} {c : Int32} {a1 a2 a3 a4 : Nat → Int32} {k x : Nat} (hk : k ≤ 16) (r : jg_row a2 k) (hx : x < 65536) (H : post (nI (jg_it (2 ^ k) x))) : wpX_apply post (c, a1, a2, a3, a4) (nI k) (nI x) := by
  have main : ∃ n, wX_apply_5 post (nI k) (nI x) c a1 a2 a3 a4 n (nI 0) (nI 0) := by
    refine pk_loop (fun n i (s : Nat) => wX_apply_5 post (nI k) (nI x) c a1 a2 a3 a4 n (nI s) (nI i)) (fun i s => s = jg_it (2 ^ k) (x % 2 ^ i)) 16 0 0 (by omega) ?_ ?_ ?_
    · rw [Nat.pow_zero, Nat.mod_one, jg_it_0]
    · intro n s h
      refine pk_le 16 16 (fun _ => ?_) (fun z => absurd z (by omega))
      rw [h, Nat.mod_eq_of_lt (b := 2 ^ 16) hx]
      exact H
    · intro n i s hi h hw
      refine pk_le 16 i (fun z => absurd z (by omega)) (fun _ => ?_)
      by_cases hb : x.testBit i = true
      · refine br_f (jg_bt (by omega) (by omega) hb) ⟨?_, nm_r (e' := nI (s ^^^ jg_it (2 ^ k) (2 ^ i))) ?_ (nm_r (nI_1 i) (hw _ ?_))⟩
        · rw [jg_ix]
          exact vp_in_nI (by omega) (by decide)
        · rw [jg_ix, nI_clamp (by omega), r i hi, jg_nx]
        · rw [h, jg_mod_t hb, jg_it_x]
      · refine br_t (jg_bf (by omega) (by omega) hb) (nm_r (nI_1 i) (hw s ?_))
        rw [h, jg_mod_f (Bool.eq_false_iff.mpr hb)]
  exact main
/-! ===== wind ===== -/
def jg_Im (a : Nat → Int32) : Prop := ∀ k, k ≤ 16 → jg_row a k
theorem jg_wind24 {post : Int32 → Prop} {c : Int32} {a1 a2 a3 a4 : Nat → Int32} {x m : Nat} (im : jg_Im a2) (hx : x < 65536) (hm : m < 65536) (H : post (nI (jg_it m x))) : ∃ n, wX_wind_24 post (nI m) c a1 a2 a3 a4 n (nI x) (nI 0) := by
  refine pk_loop (fun n i (s : Nat) => wX_wind_24 post (nI m) c a1 a2 a3 a4 n (nI s) (nI i)) (fun i s => s = jg_it (m % 2 ^ i) x) 16 0 x (by omega) ?_ ?_ ?_
  · rw [Nat.pow_zero, Nat.mod_one]
    rfl
  · intro n s h
    refine pk_le 16 16 (fun _ => ?_) (fun z => absurd z (by omega))
    rw [h, Nat.mod_eq_of_lt (b := 2 ^ 16) hm]
    exact H
  · intro n i s hi h hw
    have hs : s < 65536 := by rw [h]; exact jg_it_lt _ hx
    refine pk_le 16 i (fun z => absurd z (by omega)) (fun _ => ?_)
    by_cases hb : m.testBit i = true
    · refine br_f (jg_bt (by omega) (by omega) hb) (jg_apply (by omega) (im i (by omega)) hs (nm_r (nI_1 i) (hw _ ?_)))
      have e : m % 2 ^ (i + 1) = 2 ^ i + m % 2 ^ i := by
        rw [Nat.testBit_eq_decide_div_mod_eq, decide_eq_true_eq] at hb
        rw [Nat.pow_succ, Nat.mod_mul, hb, Nat.mul_one, Nat.add_comm]
      rw [h, e, jg_it_add]
    · refine br_t (jg_bf (by omega) (by omega) hb) (nm_r (nI_1 i) (hw s ?_))
      rw [h, jg_mod_f (Bool.eq_false_iff.mpr hb)]
theorem jg_ndiv {w : Nat} (hw : w < 2 ^ 31) : (-nI w) / 65535 = -nI (w / 65535) := by
  apply Int32.toInt_inj.mp
  have h1 : (65535 : Int32).toInt = 65535 := by decide
  rw [Int32.toInt_div, sb_negT hw, h1, sb_negT (by omega), Int.neg_tdiv, Int.tdiv_eq_ediv_of_nonneg (by omega), Int.bmod_eq_of_le (by omega) (by omega)]
  omega
theorem jg_nrem {w : Nat} (hw : w < 2 ^ 31) : (-nI w) - (-nI w) / 65535 * 65535 = -nI (w % 65535) := by
  have h := pk_rem (a := w) (d := 65535) hw (by decide) (by decide)
  rw [pk_div hw (by decide) (by decide)] at h
  rw [← h, jg_ndiv hw]
  show (-nI w) - (-nI (w / 65535)) * nI 65535 = -(nI w - nI (w / 65535) * nI 65535)
  generalize nI (w / 65535) = y
  generalize nI w = z
  generalize nI 65535 = t
  grind
theorem jg_left (p : Int32) (hp : -100000 ≤ p.toInt) : ∃ m : Nat, m < 65535 ∧ (m : Int) = p.toInt % 65535 ∧ ((0 ≤ p - p / 65535 * 65535 ∧ p - p / 65535 * 65535 = nI m) ∨ (¬ 0 ≤ p - p / 65535 * 65535 ∧ p - p / 65535 * 65535 + 65535 = nI m)) := by
  have h0 : (0 : Int32).toInt = 0 := by decide
  by_cases h : p < 0
  · rw [Int32.lt_iff_toInt_lt, h0] at h
    obtain ⟨w, hw, e⟩ : ∃ w : Nat, w < 2 ^ 31 ∧ p = -nI w := by
      refine ⟨(-p.toInt).toNat, by omega, Int32.toInt_inj.mp ?_⟩
      rw [sb_negT (by omega)]
      omega
    subst e
    rw [sb_negT hw] at h hp
    rw [jg_nrem hw, sb_negT hw]
    by_cases hz : w % 65535 = 0
    · refine ⟨0, by decide, by omega, Or.inl ?_⟩
      rw [hz]
      exact ⟨by decide, by decide⟩
    · refine ⟨65535 - w % 65535, by omega, by omega, Or.inr ⟨?_, ?_⟩⟩
      · rw [Int32.le_iff_toInt_le, h0, sb_negT (by omega)]
        omega
      · rw [← pk_sub (by omega), Int32.add_comm, Int32.sub_eq_add_neg]
        rfl
  · obtain ⟨j, hj, rfl⟩ := nI_of h
    have e : nI j - nI j / 65535 * 65535 = nI (j % 65535) := pk_rem (a := j) (d := 65535) hj (by decide) (by decide)
    refine ⟨j % 65535, by omega, ?_, Or.inl ⟨?_, e⟩⟩
    · rw [nI_toInt hj]
      omega
    · rw [e]
      exact nI_pos' (by omega)
theorem jg_wind {post : Int32 → Prop} {c : Int32} {a1 a2 a3 a4 : Nat → Int32} {x e : Nat} {p : Int32} (t : Nat) (im : jg_Im a2) (hx : x < 65536) (hp : -100000 ≤ p.toInt) (he : p.toInt % 65535 = (e : Int) % 65535) (ht : jg_it e x = t) (H : post (nI t)) : wpX_wind post (c, a1, a2, a3, a4) (nI x) p := by
  obtain ⟨m, hm, hme, h⟩ := jg_left p hp
  have hme2 : jg_it m x = t := by
    rw [← ht]
    exact jg_cong hx (by omega)
  have main : ∃ n, wX_wind_24 post (nI m) c a1 a2 a3 a4 n (nI x) (nI 0) := jg_wind24 im hx (by omega) (by rw [hme2]; exact H)
  refine ⟨by decide, nm_e ?_⟩
  rcases h with ⟨h1, h2⟩ | ⟨h1, h2⟩
  · refine br_t h1 ?_
    rw [h2]
    exact main
  · exact br_f h1 (nm_r h2 main)
theorem jg_peek {post : Int32 → Prop} {a1 a2 a3 a4 : Nat → Int32} {x e : Nat} {p : Int32} (t : Nat) (im : jg_Im a2) (hx : x < 65536) (hp : -100000 ≤ p.toInt) (hp2 : p.toInt ≤ 100000) (he : p.toInt % 65535 = (e : Int) % 65535) (ht : jg_it e x = t) (H : post (nI t)) : wpX_peek post (nI x, a1, a2, a3, a4) p := by
  have h1 : ¬ p < (-100000) := by
    rw [Int32.lt_iff_toInt_lt, show (-100000 : Int32).toInt = -100000 from by decide]
    omega
  have h2 : p ≤ 100000 := by
    rw [Int32.le_iff_toInt_le, show (100000 : Int32).toInt = 100000 from by decide]
    omega
  exact br_f h1 (br_t h2 (jg_wind t im hx hp he ht H))
theorem jg_jump {post : Int32 → St1 → Prop} {a1 a2 a3 a4 : Nat → Int32} {x e : Nat} {p : Int32} (t : Nat) (im : jg_Im a2) (hx : x < 65536) (hp : -100000 ≤ p.toInt) (hp2 : p.toInt ≤ 100000) (he : p.toInt % 65535 = (e : Int) % 65535) (ht : jg_it e x = t) (H : post (nI t) (nI t, a1, a2, a3, a4)) : wpX_jump post (nI x, a1, a2, a3, a4) p := by
  have h1 : ¬ p < (-100000) := by
    rw [Int32.lt_iff_toInt_lt, show (-100000 : Int32).toInt = -100000 from by decide]
    omega
  have h2 : p ≤ 100000 := by
    rw [Int32.le_iff_toInt_le, show (100000 : Int32).toInt = 100000 from by decide]
    omega
  exact br_f h1 (br_t h2 (jg_wind t im hx hp he ht H))
theorem jg_next {post : Int32 → St1 → Prop} {a1 a2 a3 a4 : Nat → Int32} {x : Nat} (t : Nat) (hx : x < 65536) (ht : jg_it 1 x = t) (H : post (nI t) (nI t, a1, a2, a3, a4)) : wpX_next post (nI x, a1, a2, a3, a4) := by
  have ht' : jg_T x = t := ht
  subst ht'
  unfold wpX_next
  dsimp only
  exact jg_step hx H
end
section
/-! ===== the constructor ===== -/
theorem jg_put {a f : Nat → Int32} {b i k : Nat} {x : Int32} (hk : k = b + i) (h : ∀ j, j < i → a (b + j) = f j) (hx : x = f i) : ∀ j, j < i + 1 → upd a k x (b + j) = f j := by
  intro j hj
  by_cases e : j = i
  · rw [e, hk, pk_us, hx]
  · rw [pk_un (by omega)]
    exact h j (by omega)
theorem jg_i80 {post : St1 → Prop} {mc ms kc ks : Nat} {J : Int32 → (Nat → Int32) → (Nat → Int32) → (Nat → Int32) → (Nat → Int32) → Prop} {c : Int32} {a1 a2 a3 a4 : Nat → Int32} {k : Nat} (hk : k < 16) (hr : ∀ q, q ≤ k → jg_row a2 q)
    (H : ∀ a, (∀ q, q ≤ k + 1 → jg_row a q) → J (nI (k + 1) + 1) a1 a a3 a4) : ∃ n, wX_init_80 post mc ms J (nI (k + 1)) kc ks c n (nI 0) a1 a2 a3 a4 := by
  refine pk_loop (fun n i s => wX_init_80 post mc ms J (nI (k + 1)) kc ks c n (nI i) a1 s a3 a4) (fun i s => (∀ q, q ≤ k → jg_row s q) ∧ ∀ j, j < i → s ((k + 1) * 16 + j) = nI (jg_it (2 ^ (k + 1)) (2 ^ j))) 16 0 a2 (by omega) ⟨hr, fun j hj => absurd hj (by omega)⟩ ?_ ?_
  · intro n s h
    refine pk_le 16 16 (fun _ => nm_e (H s ?_)) (fun z => absurd z (by omega))
    intro q hq
    rcases Nat.lt_or_ge q (k + 1) with g | g
    · exact h.1 q (by omega)
    · rw [show q = k + 1 by omega]
      exact h.2
  · intro n i s hi h hw
    have hp : 2 ^ i < 65536 := Nat.pow_lt_pow_right (a := 2) (by decide) hi
    refine pk_le 16 i (fun z => absurd z (by omega)) (fun _ => ?_)
    rw [nI_pred, jg_ix, jg_ix, nI_clamp (show k * 16 + i < 2 ^ 31 by omega), nI_clamp (show (k + 1) * 16 + i < 2 ^ 31 by omega), h.1 k (Nat.le_refl _) i hi]
    refine ⟨vp_in_nI (by omega) (by decide), nm_e (jg_apply (by omega) (h.1 k (Nat.le_refl _)) (jg_it_lt _ hp) ⟨vp_in_nI (by omega) (by decide), nm_e (nm_r (nI_1 i) (hw _ ⟨?_, ?_⟩))⟩)⟩
    · intro q hq j hj
      rw [pk_un (by omega)]
      exact h.1 q hq j hj
    · refine jg_put (f := fun j => nI (jg_it (2 ^ (k + 1)) (2 ^ j))) rfl h.2 ?_
      rw [← jg_it_add]
      exact congrArg (fun z => nI (jg_it z (2 ^ i))) (by rw [Nat.pow_succ]; omega)
theorem jg_i72 {post : St1 → Prop} {mc ms kc ks : Nat} {c : Int32} {a1 a2 a3 a4 : Nat → Int32} (hr : jg_row a2 0) (H : ∀ a, jg_Im a → post (c, a1, a, a3, a4)) : ∃ n, wX_init_72 post mc ms kc ks c n (nI 1) a1 a2 a3 a4 := by
  refine pk_loop (fun n i s => wX_init_72 post mc ms kc ks c n (nI (i + 1)) a1 s a3 a4) (fun i s => ∀ q, q ≤ i → jg_row s q) 16 0 a2 (by omega) (fun q hq => by rw [show q = 0 by omega]; exact hr) ?_ ?_
  · intro n s h
    exact pk_lt 16 17 (fun _ => H s h) (fun z => absurd z (by omega))
  · intro n i s hi h hw
    refine pk_lt 16 (i + 1) (fun z => absurd z (by omega)) (fun _ => jg_i80 hi h (fun a ha => ?_))
    rw [nI_1]
    exact hw a ha
theorem jg_i46 {post : St1 → Prop} {mc ms kc ks : Nat} {c : Int32} {a1 a2 a3 a4 : Nat → Int32} (H : ∀ a, jg_Im a → post (c, a1, a, a3, a4)) : ∃ n, wX_init_46 post mc ms kc ks c n (nI 0) a1 a2 a3 a4 := by
  refine pk_loop (fun n i s => wX_init_46 post mc ms kc ks c n (nI i) a1 s a3 a4) (fun i s => ∀ j, j < i → s (0 + j) = nI (jg_T (2 ^ j))) 16 0 a2 (by omega) (fun j hj => absurd hj (by omega)) ?_ ?_
  · intro n s h
    exact pk_le 16 16 (fun _ => jg_i72 (fun i hi => h i hi) H) (fun z => absurd z (by omega))
  · intro n i s hi h hw
    have hp : 2 ^ i < 65536 := Nat.pow_lt_pow_right (a := 2) (by decide) hi
    refine pk_le 16 i (fun z => absurd z (by omega)) (fun _ => ?_)
    rw [jg_one hi, nI_clamp (show i < 2 ^ 31 by omega)]
    refine jg_step hp ⟨vp_in_nI (by omega) (by decide), nm_e (nm_r (nI_1 i) (hw _ ?_))⟩
    exact jg_put (f := fun j => nI (jg_T (2 ^ j))) (by omega) h rfl
theorem jg_init {post : St1 → Prop} {c : Int32} (H : ∀ a, jg_Im a → post (1, fun _ => 0, a, fun _ => 0, fun _ => 0)) : wpX_init post 4 2328 c :=
  ⟨by decide, by decide, by decide, by decide, by decide, by decide, by decide, by decide, jg_i46 H⟩
/-! ===== places, notes, steps ===== -/
theorem jg_place {post : Int32 → Prop} {c : Int32} {a1 a2 a3 a4 : Nat → Int32} {x : Int32} (H : ∀ h, h < 1024 → post (nI h)) : wpX_placeOf post (c, a1, a2, a3, a4) x := by
  refine nm_e ?_
  obtain ⟨j, hj, e⟩ := pk_andE ((x * 40503) >>> ((6 : Int32) &&& 31)) (m := 1023) 10 (by decide)
  rw [e]
  have main : ∃ n, wX_placeOf_14 post x c a1 a2 a3 a4 n (nI j) (nI 0) := by
    refine pk_loop (fun n i (s : Nat) => wX_placeOf_14 post x c a1 a2 a3 a4 n (nI s) (nI i)) (fun _ s => s < 1024) 1024 0 j (by omega) hj ?_ ?_
    · intro n s h
      exact pk_le 1024 1024 (fun _ => H s h) (fun z => absurd z (by omega))
    · intro n i s hi h hw
      obtain ⟨j2, hj2, e2⟩ := pk_andE (nI s + 1) (m := 1023) 10 (by decide)
      exact pk_le 1024 i (fun z => absurd z (by omega)) (fun _ => ⟨vp_in_nI h (by decide), br_c (fun _ => H s h) (fun _ => ⟨vp_in_nI h (by decide), br_c (fun _ => H s h) (fun _ => nm_r e2 (nm_r (nI_1 i) (hw j2 hj2)))⟩)⟩)
  exact main
/-- what the notes hold: states a few steps on from g -/
def jg_Nt (a3 a4 : Nat → Int32) (g : Nat) : Prop := ∀ h, h < 1024 → a3 h = 0 ∨ ∃ j, j < 256 ∧ a4 h = nI j ∧ a3 h = nI (jg_it j g)
theorem jg_sh : ∀ t, t < 256 → (nI t).toInt16.toInt32 = nI t := by decide +kernel
theorem jg_n26 {post : St1 → Prop} {c : Int32} {a1 a2 a3 a4 : Nat → Int32} {g : Nat} (hg : g < 65536) (h0 : ∀ h, h < 1024 → a3 h = 0) (H : ∀ b3 b4, jg_Nt b3 b4 g → post (c, a1, a2, b3, b4)) : ∃ n, wX_noteFrom_26 post c n (nI g) (nI 0) a1 a2 a3 a4 := by
  refine pk_loop (fun n i (s : Nat × (Nat → Int32) × (Nat → Int32)) => wX_noteFrom_26 post c n (nI s.1) (nI i) a1 a2 s.2.1 s.2.2) (fun i s => s.1 = jg_it i g ∧ jg_Nt s.2.1 s.2.2 g) 256 0 (g, a3, a4) (by omega) ⟨rfl, fun h hh => Or.inl (h0 h hh)⟩ ?_ ?_
  · intro n s h
    exact pk_le 256 256 (fun _ => H _ _ h.2) (fun z => absurd z (by omega))
  · intro n i s hi h hw
    obtain ⟨x, b3, b4⟩ := s
    obtain ⟨hx, hN⟩ := h
    dsimp only at hx hN
    have hl : x < 65536 := by rw [hx]; exact jg_it_lt i hg
    refine pk_le 256 i (fun z => absurd z (by omega)) (fun _ => jg_place (fun q hq => ⟨vp_in_nI hq (by decide), nm_e ⟨vp_in_nI hq (by decide), nm_e (jg_step hl (nm_r (nI_1 i) (hw (jg_T x, upd b3 (nI q).toNatClampNeg (nI x), upd b4 (nI q).toNatClampNeg (nI i).toInt16.toInt32) ⟨?_, ?_⟩)))⟩⟩))
    · show jg_T x = jg_T (jg_it i g)
      rw [hx]
    · show jg_Nt (upd b3 (nI q).toNatClampNeg (nI x)) (upd b4 (nI q).toNatClampNeg (nI i).toInt16.toInt32) g
      rw [nI_clamp (show q < 2 ^ 31 by omega), jg_sh i hi]
      intro y hy
      by_cases e : y = q
      · rw [e, pk_us, pk_us]
        exact Or.inr ⟨i, hi, rfl, by rw [hx]⟩
      · rw [pk_un e, pk_un e]
        exact hN y hy
theorem jg_note {post : St1 → Prop} {c : Int32} {a1 a2 a3 a4 : Nat → Int32} {g : Nat} (hg : g < 65536) (H : ∀ b3 b4, jg_Nt b3 b4 g → post (c, a1, a2, b3, b4)) : wpX_noteFrom post (c, a1, a2, a3, a4) (nI g) := by
  have main : ∃ n, wX_noteFrom_2 post (nI g) c n (nI 0) a1 a2 a3 a4 := by
    refine pk_loop (fun n i s => wX_noteFrom_2 post (nI g) c n (nI i) a1 a2 s a4) (fun i s => ∀ j, j < i → s (0 + j) = 0) 1024 0 a3 (by omega) (fun j hj => absurd hj (by omega)) ?_ ?_
    · intro n s h
      refine pk_le 1024 1024 (fun _ => jg_n26 hg (fun j hj => ?_) H) (fun z => absurd z (by omega))
      have := h j hj
      rw [Nat.zero_add] at this
      exact this
    · intro n i s hi h hw
      refine pk_le 1024 i (fun z => absurd z (by omega)) (fun _ => ⟨vp_in_nI hi (by decide), nm_e (nm_r (nI_1 i) (hw _ ?_))⟩)
      exact jg_put (f := fun _ => 0) (by rw [nI_clamp (by omega)]; omega) h rfl
  exact main
theorem jg_steps {post : Int32 → St1 → Prop} {c : Int32} {a1 a2 a3 a4 : Nat → Int32} {x g : Nat} (im : jg_Im a2) (h0 : 0 < x) (hx : x < 65536) (hg : g < 65536) (H : ∀ d b3 b4, d ≤ 65536 → jg_it d x = g → post (nI d) (c, a1, a2, b3, b4)) (HN : ∀ b3 b4, post (-1) (c, a1, a2, b3, b4)) : wpX_steps post (c, a1, a2, a3, a4) (nI x) (nI g) := by
  refine pk_eq x g (fun e => H 0 a3 a4 (by omega) e) (fun _ => jg_note hg (fun b3 b4 hN => ?_))
  have main : ∃ n, wX_steps_17 post c a1 a2 b3 b4 n (nI x) (nI (0 + 1)) := by
    refine pk_loop (fun n i (s : Nat) => wX_steps_17 post c a1 a2 b3 b4 n (nI s) (nI (i + 1))) (fun i s => s = jg_it (256 * i) x) 256 0 x (by omega) rfl ?_ ?_
    · intro n s h
      exact pk_lt 256 257 (fun _ => HN b3 b4) (fun z => absurd z (by omega))
    · intro n i s hi h hw
      have hs : s < 65536 := by rw [h]; exact jg_it_lt _ hx
      refine pk_lt 256 (i + 1) (fun z => absurd z (by omega)) (fun _ => jg_apply (k := 8) (by omega) (im 8 (by omega)) hs (jg_place (fun q hq => ⟨vp_in_nI hq (by decide), ?_⟩)))
      have e : jg_it (2 ^ 8) s = jg_it (256 * (i + 1)) x := by
        rw [h, ← jg_it_add]
        exact congrArg (fun z => jg_it z x) (by omega)
      have hp := jg_pos (256 * (i + 1)) h0 hx
      have hl := jg_it_lt (256 * (i + 1)) hx
      rw [nI_clamp (show q < 2 ^ 31 by omega), e]
      refine br_c (fun hk => ⟨vp_in_nI hq (by decide), ?_⟩) (fun _ => nm_r (nI_1 (i + 1)) (hw _ rfl))
      rcases hN q hq with z | ⟨j, hj, e4, e3⟩
      · rw [z] at hk
        exact absurd hk.symm (nI_ne0 hp (by omega))
      · have hgl := jg_it_lt j hg
        rw [e3, nI_eq (by omega) (by omega)] at hk
        have e5 : 256 * nI (i + 1) - nI j = nI (256 * (i + 1) - j) := by
          show nI 256 * nI (i + 1) - nI j = _
          rw [pk_mul, pk_sub (by omega)]
        rw [e4, e5]
        refine H _ b3 b4 (by omega) (jg_inj (j := j) (jg_it_lt _ hx) hg ?_)
        rw [← jg_it_add, hk]
        exact congrArg (fun z => jg_it z x) (by omega)
  exact main
theorem jg_isS {post : Int32 → Prop} {u : St2} {s : Nat} (h0 : 0 < s) (hs : s < 65536) (H : post 1) : wpX_isState post u (nI s) :=
  pk_lt s 1 (fun z => absurd z (by omega)) (fun _ => pk_lt 65535 s (fun z => absurd z (by omega)) (fun _ => H))
theorem jg_dist {post : Int32 → St1 → Prop} {a1 a2 a3 a4 : Nat → Int32} {x g : Nat} (im : jg_Im a2) (h0 : 0 < x) (hx : x < 65536) (hg0 : 0 < g) (hg : g < 65536) (H : ∀ d b3 b4, d ≤ 65536 → jg_it d x = g → post (nI d) (nI x, a1, a2, b3, b4)) (HN : ∀ b3 b4, post (-1) (nI x, a1, a2, b3, b4)) : wpX_distance post (nI x, a1, a2, a3, a4) (nI g) := by
  unfold wpX_distance
  dsimp only
  exact jg_isS hg0 hg (br_f (by decide) (jg_steps im h0 hx hg H HN))
/-! ===== rows of states ===== -/
theorem jg_mixed {post : Int32 → Prop} {a1 a2 a3 a4 : Nat → Int32} {x m : Nat} (t : Nat) (im : jg_Im a2) (hx : x < 65536) (hm : m ≤ 100000) (ht : jg_mx x m = t) (H : post (nI t)) : wpX_mixed post (nI x, a1, a2, a3, a4) (nI m) := by
  have main : wX_mixed_20 post (nI m) (nI x) a1 a2 a3 a4 (17 + 1) (nI 0) (nI 0) (nI 17 + (-1)) := by
    refine pk_loopD (fun n i (s : Nat × Nat) => wX_mixed_20 post (nI m) (nI x) a1 a2 a3 a4 n (nI s.1) (nI s.2) (nI i + (-1))) (fun i s => i ≤ 17 ∧ s.2 = m / 2 ^ i ∧ s.1 = jg_mx x (m / 2 ^ i)) ?_ ?_ 17 (0, 0) ⟨by omega, ?_, ?_⟩
    · intro n s h
      obtain ⟨_, _, h3⟩ := h
      rw [Nat.pow_zero, Nat.div_one, ht] at h3
      refine br_t (by decide) ?_
      rw [h3]
      exact H
    · intro n i s h hw
      obtain ⟨y, l⟩ := s
      obtain ⟨hi, h2, h3⟩ := h
      dsimp only at h2 h3
      dsimp only
      rw [pk_m1]
      have hy : y < 65536 := by rw [h3]; exact jg_mx_lt hx _
      have hl : l ≤ m := by rw [h2]; exact Nat.div_le_self _ _
      have hd : m / 2 ^ i = 2 * l + m / 2 ^ i % 2 := by
        rw [h2, Nat.pow_succ, ← Nat.div_div_eq_div_mul]
        omega
      have e2 : nI l * 2 = nI (2 * l) := by
        show nI l * nI 2 = _
        rw [pk_mul, Nat.mul_comm]
      have hm2 : y ^^^ jg_it l y = jg_mx x (2 * l) := by
        rw [Nat.two_mul, jg_mx_add, h3, ← h2]
      refine br_f (nI_pos (by omega)) (jg_wind (e := l) _ im hy (by rw [nI_toInt (by omega)]; omega) (by rw [nI_toInt (by omega)]) rfl (nm_r (jg_nx _ _) (nm_r e2 ?_)))
      by_cases hb : m.testBit i = true
      · have hb1 := hb
        rw [Nat.testBit_eq_decide_div_mod_eq, decide_eq_true_eq] at hb1
        refine br_f (jg_bt (by omega) (by omega) hb) (jg_wind (e := 2 * l) _ im hx (by rw [nI_toInt (by omega)]; omega) (by rw [nI_toInt (by omega)]) rfl (nm_r (jg_nx _ _) (nm_r (nI_1 _) (nm_e (hw (_, _) ⟨by omega, ?_, ?_⟩)))))
        · dsimp only
          omega
        · dsimp only
          rw [hd, hb1, hm2]
          rfl
      · have hb1 := hb
        rw [Nat.testBit_eq_decide_div_mod_eq, decide_eq_true_eq] at hb1
        refine br_t (jg_bf (by omega) (by omega) hb) (nm_e (hw (_, _) ⟨by omega, ?_, ?_⟩))
        · dsimp only
          omega
        · dsimp only
          rw [hm2]
          exact congrArg (jg_mx x) (by omega)
    · dsimp only
      omega
    · dsimp only
      rw [show m / 2 ^ 17 = 0 by omega]
      rfl
  refine br_f (nI_pos (by omega)) (br_t (nI_le (b := 100000) hm (by decide)) ⟨17 + 1, ?_⟩)
  exact main
theorem jg_period {post : Int32 → Prop} {a1 a2 a3 a4 : Nat → Int32} {x : Nat} (im : jg_Im a2) (hx : x < 65536) (H : ∀ m, 0 < m → m ≤ 65535 → jg_it m x = x → post (nI m)) : wpX_period post (nI x, a1, a2, a3, a4) := by
  have main : ∃ n, wX_period_2 post (nI x) a1 a2 a3 a4 n (nI (0 + 1)) := by
    refine pk_loop (σ := Unit) (fun n i _ => wX_period_2 post (nI x) a1 a2 a3 a4 n (nI (i + 1))) (fun _ _ => True) 65534 0 () (by omega) trivial ?_ ?_
    · intro n _ _
      exact pk_le 65535 65535 (fun _ => H 65535 (by omega) (by omega) (jg_cyc hx)) (fun z => absurd z (by omega))
    · intro n i _ hi _ hw
      have go : wX_period_2 post (nI x) a1 a2 a3 a4 n (nI (i + 1 + 1)) := hw () trivial
      have hl := jg_it_lt (i + 1) hx
      refine pk_le 65535 (i + 1) (fun z => absurd z (by omega)) (fun _ => ⟨nI_ne0 (by omega) (by omega), br_c (fun _ => ?_) (fun _ => ?_)⟩)
      · refine br_f (by decide) (jg_wind (e := i + 1) _ im hx (by rw [nI_toInt (by omega)]; omega) (by rw [nI_toInt (by omega)]) rfl ?_)
        exact pk_eq (jg_it (i + 1) x) x (fun e => H (i + 1) (by omega) (by omega) e) (fun _ => nm_r (nI_1 (i + 1)) go)
      · exact br_t rfl (nm_r (nI_1 (i + 1)) go)
  exact main
theorem jg_before {post : Int32 → Prop} {c : Int32} {a1 a2 a3 a4 : Nat → Int32} {x m e : Nat} (t : Nat) (im : jg_Im a2) (h0 : 0 < x) (hx : x < 65536) (hm : m ≤ 100000) (he : (e + m) % 65535 = 0) (ht : jg_it e x = t) (H : post (nI t)) : wpX_before post (c, a1, a2, a3, a4) (nI x) (nI m) := by
  unfold wpX_before
  dsimp only
  refine jg_isS h0 hx (br_f (by decide) (br_f (nI_pos (by omega)) (br_f (nI_nlt (a := 100000) hm (by decide)) ?_)))
  exact jg_wind t im hx (by rw [sb_negT (by omega)]; omega) (by rw [sb_negT (by omega)]; omega) ht H
theorem jg_apart {post : Int32 → Prop} {c : Int32} {a1 a2 a3 a4 : Nat → Int32} {x y m : Nat} (t : Nat) (im : jg_Im a2) (h0 : 0 < x) (hx : x < 65536) (hy0 : 0 < y) (hy : y < 65536) (hm : m ≤ 100000) (ht : jg_it m (x ^^^ y) = t) (H : post (nI t)) : wpX_apart post (c, a1, a2, a3, a4) (nI x) (nI y) (nI m) := by
  unfold wpX_apart
  dsimp only
  refine jg_isS h0 hx (br_f (by decide) (jg_isS hy0 hy (br_f (by decide) (br_f (nI_pos (by omega)) (br_f (nI_nlt (a := 100000) hm (by decide)) ?_)))))
  rw [jg_nx]
  exact jg_wind t im (jg_xlt hx hy) (by rw [nI_toInt (by omega)]; omega) (by rw [nI_toInt (by omega)]) ht H
end
section
/-! ===== the law's checks ===== -/
theorem jg_moves {post : Int32 → St1 → Prop} {a1 a2 a3 a4 : Nat → Int32} {s e : Nat} {p : Int32} (im : jg_Im a2) (h0 : 0 < s) (hs : s < 65536) (hp : -100000 ≤ p.toInt) (hp2 : p.toInt ≤ 100000) (he : p.toInt % 65535 = (e : Int) % 65535) (H : post 1 (nI s, a1, a2, a3, a4)) : wpL_moves post (nI s, a1, a2, a3, a4) p := by
  have hn : (-p).toInt = -p.toInt := by
    rw [Int32.toInt_neg]
    exact Int.bmod_eq_of_le (by omega) (by omega)
  have hm1 : (-1 : Int32).toInt = -1 := by decide
  have h1 : (1 : Int32).toInt = 1 := by decide
  have hz : (0 : Int32).toInt = 0 := by decide
  obtain ⟨f, hf⟩ : ∃ f : Nat, f = 65534 * e := ⟨_, rfl⟩
  obtain ⟨w, hw⟩ : ∃ w : Nat, w = 65534 := ⟨_, rfl⟩
  have ht := jg_it_lt e hs
  have hb : jg_it f (jg_it e s) = s := jg_back hs (by omega)
  have ho := jg_it_lt 1 hs
  have hb1 : jg_it w (jg_it 1 s) = s := jg_back hs (by omega)
  have back : ∀ {q : Int32 → St1 → Prop}, q (nI s) (nI s, a1, a2, a3, a4) → wpX_jump q (nI (jg_it 1 s), a1, a2, a3, a4) (-1) := fun {q} hq =>
    jg_jump (e := w) s im ho (by rw [hm1]; omega) (by rw [hm1]; omega) (by rw [hm1, hw]; decide) hb1 hq
  unfold wpL_moves
  dsimp only
  unfold wpX_state
  dsimp only
  refine jg_peek (e := e) _ im hs hp hp2 he rfl (jg_peek (e := 1) _ im hs (by rw [h1]; omega) (by rw [h1]; omega) (by rw [h1]; rfl) rfl ?_)
  refine pk_lt s 1 (fun z => absurd z (by omega)) (fun _ => pk_lt 65535 s (fun z => absurd z (by omega)) (fun _ => ?_))
  refine jg_peek (e := 0) s im hs (by rw [hz]; omega) (by rw [hz]; omega) (by rw [hz]; rfl) rfl (br_t rfl (br_t rfl ?_))
  refine jg_jump (e := e) _ im hs hp hp2 he rfl (br_t rfl (br_t rfl ?_))
  refine jg_jump (e := f) s im ht (by rw [hn]; omega) (by rw [hn]; omega) (by rw [hn, hf]; omega) hb (br_t rfl (br_t rfl ?_))
  refine jg_next _ hs rfl (br_t rfl ?_)
  refine back (br_t rfl ?_)
  refine jg_jump (e := 1) _ im hs (by rw [h1]; omega) (by rw [h1]; omega) (by rw [h1]; rfl) rfl (br_t rfl ?_)
  exact back (br_t rfl H)
theorem jg_r72 {post : Int32 → St1 → Prop} {a1 a2 a3 a4 : Nat → Int32} {s t m : Nat} (im : jg_Im a2) (h0 : 0 < s) (hs : s < 65536) (ht0 : 0 < t) (ht : t < 65536) (hm : m ≤ 100000) (H : post 1 (nI s, a1, a2, a3, a4)) : wL_rows_72 post (nI m) (nI t) (nI s) (nI (jg_it m s)) (nI (jg_mx s m)) (nI (jg_mx s m ^^^ jg_it m s)) (nI s) a1 a2 a3 a4 := by
  unfold wL_rows_72
  refine jg_period im hs (fun r hr0 hr hrs => ?_)
  refine jg_mixed (m := 1) s im hs (by omega) (by show 0 ^^^ s = s; rw [Nat.zero_xor]) (br_t rfl ?_)
  refine jg_mixed (m := 0) 0 im hs (by omega) rfl (br_t rfl (br_t (jg_nx _ _).symm ?_))
  refine jg_peek (e := r) s im hs (by rw [nI_toInt (by omega)]; omega) (by rw [nI_toInt (by omega)]; omega) (by rw [nI_toInt (by omega)]) hrs (br_t rfl ?_)
  refine jg_before (e := 65534 * m) s im (jg_pos m h0 hs) (jg_it_lt m hs) hm (by omega) (jg_back hs (by omega)) (br_t rfl ?_)
  refine jg_apart _ im h0 hs ht0 ht hm rfl (jg_apart _ im ht0 ht h0 hs hm (by rw [Nat.xor_comm]) (br_t rfl ?_))
  exact jg_apart 0 im ht0 ht ht0 ht hm (by rw [Nat.xor_self, jg_it_0]) (br_t rfl H)
theorem jg_r37 {post : Int32 → St1 → Prop} {a1 a2 a3 a4 : Nat → Int32} {s t m : Nat} (im : jg_Im a2) (h0 : 0 < s) (hs : s < 65536) (ht0 : 0 < t) (ht : t < 65536) (hm : m ≤ 100000) (H : post 1 (nI s, a1, a2, a3, a4)) : wL_rows_37 post (nI m) (nI t) (nI s) (nI s) a1 a2 a3 a4 := by
  unfold wL_rows_37
  have R := jg_r72 (post := post) (a1 := a1) (a3 := a3) (a4 := a4) im h0 hs ht0 ht hm H
  refine jg_peek (e := m) _ im hs (by rw [nI_toInt (by omega)]; omega) (by rw [nI_toInt (by omega)]; omega) (by rw [nI_toInt (by omega)]) rfl (jg_mixed _ im hs hm rfl ?_)
  refine pk_le 100000 m (fun _ => ?_) (fun z => ?_)
  · rw [jg_nx]
    exact R
  · rw [nI_1]
    exact jg_mixed (m := m + 1) _ im hs (by omega) rfl R
theorem jg_rows {post : Int32 → St1 → Prop} {a1 a2 a3 a4 : Nat → Int32} {s t m : Nat} (im : jg_Im a2) (h0 : 0 < s) (hs : s < 65536) (ht0 : 0 < t) (ht : t < 65536) (hm : m ≤ 100000) (H : ∀ b3 b4, post 1 (nI s, a1, a2, b3, b4)) : wpL_rows post (nI s, a1, a2, a3, a4) (nI m) (nI t) := by
  unfold wpL_rows
  dsimp only
  unfold wpX_state
  dsimp only
  have R : ∀ b3 b4, wL_rows_37 post (nI m) (nI t) (nI s) (nI s) a1 a2 b3 b4 := fun b3 b4 => jg_r37 im h0 hs ht0 ht hm (H b3 b4)
  refine jg_dist im h0 hs ht0 ht (fun d b3 b4 hd e => ?_) (fun b3 b4 => br_t rfl (R b3 b4))
  have hn : ¬ nI d = -1 := by
    intro z
    have z2 := congrArg Int32.toInt z
    rw [nI_toInt (by omega), show (-1 : Int32).toInt = -1 from by decide] at z2
    omega
  refine br_f hn (br_f (nI_nlt (a := 100000) (by omega) (by decide)) ?_)
  exact jg_peek (e := d) t im hs (by rw [nI_toInt (by omega)]; omega) (by rw [nI_toInt (by omega)]; omega) (by rw [nI_toInt (by omega)]) e (br_t rfl (R b3 b4))
theorem jg_pick {post : Int32 → Prop} {L : Nat} {xs : Nat → Int32} {u : St2} {p1 p2 : Int32} {k : Nat} (d : Nat) (hL : L < 2 ^ 31) (hk : k < 2 ^ 31) (h0 : 0 < d) (hd : d < 2 ^ 31) (e1 : p1 = nI k) (e2 : p2 = nI d) (H : ∀ j, j < d → post (nI j)) : wpL_pick post L xs u p1 p2 := by
  subst e1 e2
  have main : ∀ c : Int32, post ((c &&& 2147483647) - (c &&& 2147483647) / nI d * nI d) := by
    intro c
    obtain ⟨j, hj, e⟩ := pk_andE c (m := 2147483647) 31 (by decide)
    rw [e, pk_rem hj h0 hd]
    exact H _ (Nat.mod_lt _ h0)
  exact pk_le L k (fun _ => ⟨nI_ne0 h0 hd, main 0⟩) (fun z => ⟨vp_in_nI z hL, nm_e ⟨nI_ne0 h0 hd, main _⟩⟩)
/-- what holds between two turns: the state, the marks, the table -/
def jg_K (c : Int32) (a1 a2 : Nat → Int32) : Prop := (∃ s, 0 < s ∧ s < 65536 ∧ c = nI s) ∧ (∀ m, m < 8 → ∃ v, v < 65536 ∧ a1 m = nI v) ∧ jg_Im a2
theorem jg_147 {post : Int32 → Prop} {L : Nat} {xs : Nat → Int32} {J : Int32 → Int32 → (Nat → Int32) → (Nat → Int32) → (Nat → Int32) → (Nat → Int32) → Prop} {i b m kc ks : Nat} {c : Int32} {a1 a2 a3 a4 : Nat → Int32} (K : jg_K c a1 a2) (hb : b < 65535) (hm : m < 100001) (H : ∀ b3 b4, J (nI (i + 4)) c a1 a2 b3 b4) : wL_law_147 post L xs J (nI i) (nI b) (nI m) kc ks c a1 a2 a3 a4 := by
  obtain ⟨⟨s, h0, hs, rfl⟩, _, im⟩ := K
  unfold wL_law_147
  refine jg_moves (e := m) im h0 hs (by rw [nI_toInt (by omega)]; omega) (by rw [nI_toInt (by omega)]; omega) (by rw [nI_toInt (by omega)]) (br_f (by decide) ?_)
  refine jg_moves (e := 65534 * m) im h0 hs (by rw [sb_negT (by omega)]; omega) (by rw [sb_negT (by omega)]; omega) (by rw [sb_negT (by omega)]; omega) (br_f (by decide) ?_)
  rw [nI_1]
  refine jg_rows im h0 hs (by omega) (by omega) (by omega) (fun b3 b4 => br_f (by decide) (nm_r (nI_add i 4) (H b3 b4)))
theorem jg_law {L : Nat} {xs : Nat → Int32} (hL : L ≤ 260) {kc ks : Nat} {c : Int32} {a1 a2 a3 a4 : Nat → Int32} (K : jg_K c a1 a2) : ∃ n, wL_law_10 (fun r => r = 1) L xs kc ks n (nI 0) c a1 a2 a3 a4 := by
  refine lp6 (wL_law_10 (fun r => r = 1) L xs kc ks) (fun x c a1 a2 _ _ => ∃ i, i < 300 ∧ x = nI i ∧ jg_K c a1 a2) (fun x _ _ _ _ _ => 300 - x.toNatClampNeg) ?_ _ _ _ _ _ _ ⟨0, by omega, rfl, K⟩
  intro n x c a1 a2 a3 a4 hI hk
  obtain ⟨i, hi, rfl, K⟩ := hI
  refine pk_le L i (fun _ => rfl) (fun hiL => ?_)
  refine jg_pick 8 (by omega) (by omega) (by omega) (by omega) rfl rfl (fun op hop => ?_)
  refine jg_pick (k := i + 1) 100001 (by omega) (by omega) (by omega) (by omega) (nI_1 i) rfl (fun a ha => ?_)
  refine jg_pick (k := i + 2) 65535 (by omega) (by omega) (by omega) (by omega) (nI_add i 2) rfl (fun b hb => ?_)
  refine jg_pick (k := i + 3) 100001 (by omega) (by omega) (by omega) (by omega) (nI_add i 3) rfl (fun m hm => ?_)
  have Q : ∀ {c' : Int32} {b1 b2 b3 b4 : Nat → Int32}, jg_K c' b1 b2 → wL_law_147 (fun r => r = 1) L xs (wL_law_10 (fun r => r = 1) L xs kc ks n) (nI i) (nI b) (nI m) kc ks c' b1 b2 b3 b4 := by
    intro c' b1 b2 b3 b4 K'
    refine jg_147 K' hb hm (fun d3 d4 => hk _ _ _ _ _ _ ⟨i + 4, by omega, rfl, K'⟩ ?_)
    rw [nI_clamp (by omega), nI_clamp (by omega)]
    omega
  obtain ⟨⟨s, h0, hs, rfl⟩, hM, im⟩ := K
  obtain ⟨w, hw, ew⟩ := pk_andE (nI b) (m := 7) 3 (by decide)
  have hw8 : w < 8 := hw
  have isM : ∀ {q : Int32 → Prop} {u : St2}, q 1 → wpX_isMark q u (nI w) := fun {q u} hq =>
    br_f (nI_pos (by omega)) (br_f (nI_ge (b := 8) hw8 (by decide)) hq)
  refine pk_lt 1 op (fun _ => ?_) (fun _ => ?_)
  · refine pk_eq op 2 (fun _ => ?_) (fun _ => ?_)
    · exact jg_next _ hs rfl (Q ⟨⟨_, jg_pos 1 h0 hs, jg_it_lt 1 hs, rfl⟩, hM, im⟩)
    refine pk_eq op 3 (fun _ => ?_) (fun _ => ?_)
    · exact jg_jump (e := a) _ im hs (by rw [nI_toInt (by omega)]; omega) (by rw [nI_toInt (by omega)]; omega) (by rw [nI_toInt (by omega)]) rfl (Q ⟨⟨_, jg_pos a h0 hs, jg_it_lt a hs, rfl⟩, hM, im⟩)
    refine pk_eq op 4 (fun _ => ?_) (fun _ => ?_)
    · exact jg_jump (e := 65534 * a) _ im hs (by rw [sb_negT (by omega)]; omega) (by rw [sb_negT (by omega)]; omega) (by rw [sb_negT (by omega)]; omega) rfl (Q ⟨⟨_, jg_pos _ h0 hs, jg_it_lt _ hs, rfl⟩, hM, im⟩)
    refine pk_lt 6 op (fun _ => ?_) (fun _ => ?_)
    · rw [ew]
      unfold wpX_back
      dsimp only
      refine isM (br_f (by decide) ⟨vp_in_nI hw8 (by decide), ?_⟩)
      rw [nI_clamp (by omega)]
      obtain ⟨v, hv, ev⟩ := hM w hw8
      rw [ev]
      refine pk_eq v 0 (fun _ => Q ⟨⟨s, h0, hs, rfl⟩, hM, im⟩) (fun hv0 => ⟨vp_in_nI hw8 (by decide), nm_e (Q ⟨⟨v, by omega, hv, rfl⟩, hM, im⟩)⟩)
    · rw [ew]
      unfold wpX_mark
      dsimp only
      refine isM (br_f (by decide) ⟨vp_in_nI hw8 (by decide), nm_e (Q ⟨⟨s, h0, hs, rfl⟩, fun y hy => ?_, im⟩)⟩)
      rw [nI_clamp (by omega)]
      by_cases e : y = w
      · rw [e, pk_us]
        exact ⟨s, hs, rfl⟩
      · rw [pk_un e]
        exact hM y hy
  · rw [nI_1]
    unfold wpX_seed
    dsimp only
    exact jg_isS (by omega) (by omega) (br_f (by decide) (Q ⟨⟨b + 1, by omega, by omega, rfl⟩, hM, im⟩))
theorem i_vc (xs : Nat → Int32) (L : Nat) (hL : L ≤ 260) : wpL_law (fun r => r = 1) L xs := by
  refine ⟨4, 2328, by decide, by decide, jg_init (fun a im => ?_)⟩
  exact jg_law hL ⟨⟨1, by omega, by omega, rfl⟩, fun m _ => ⟨0, by omega, rfl⟩, im⟩
end
