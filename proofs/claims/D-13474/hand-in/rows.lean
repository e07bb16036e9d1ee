section
/-! the pure picture: one step, n steps, rows of states; steps are additive over exclusive sums -/
def jg_s1 (x : Nat) : Nat := x ^^^ ((x <<< 7) % 2 ^ 16)
def jg_s2 (x : Nat) : Nat := x ^^^ (x >>> 9)
def jg_s3 (x : Nat) : Nat := x ^^^ ((x <<< 8) % 2 ^ 16)
def jg_st (x : Nat) : Nat := jg_s3 (jg_s2 (jg_s1 x))
def jg_it : Nat → Nat → Nat
  | 0, x => x
  | n + 1, x => jg_it n (jg_st x)
def jg_mx : Nat → Nat → Nat
  | 0, _ => 0
  | n + 1, x => jg_mx n x ^^^ jg_it n x
theorem jg_ac (x y a b : Nat) : (x ^^^ y) ^^^ (a ^^^ b) = (x ^^^ a) ^^^ (y ^^^ b) := by ac_rfl
theorem jg_s1x (x y : Nat) : jg_s1 (x ^^^ y) = jg_s1 x ^^^ jg_s1 y := by
  unfold jg_s1
  rw [Nat.shiftLeft_xor_distrib, Nat.xor_mod_two_pow, jg_ac]
theorem jg_s2x (x y : Nat) : jg_s2 (x ^^^ y) = jg_s2 x ^^^ jg_s2 y := by
  unfold jg_s2
  rw [Nat.shiftRight_xor_distrib, jg_ac]
theorem jg_s3x (x y : Nat) : jg_s3 (x ^^^ y) = jg_s3 x ^^^ jg_s3 y := by
  unfold jg_s3
  rw [Nat.shiftLeft_xor_distrib, Nat.xor_mod_two_pow, jg_ac]
theorem jg_stx (x y : Nat) : jg_st (x ^^^ y) = jg_st x ^^^ jg_st y := by
  unfold jg_st
  rw [jg_s1x, jg_s2x, jg_s3x]
theorem jg_s1l {x : Nat} (h : x < 2 ^ 16) : jg_s1 x < 2 ^ 16 := Nat.xor_lt_two_pow h (Nat.mod_lt _ (Nat.two_pow_pos 16))
theorem jg_s2l {x : Nat} (h : x < 2 ^ 16) : jg_s2 x < 2 ^ 16 := by
  refine Nat.xor_lt_two_pow h ?_
  rw [Nat.shiftRight_eq_div_pow]
  exact Nat.lt_of_le_of_lt (Nat.div_le_self _ _) h
theorem jg_s3l {x : Nat} (h : x < 2 ^ 16) : jg_s3 x < 2 ^ 16 := Nat.xor_lt_two_pow h (Nat.mod_lt _ (Nat.two_pow_pos 16))
theorem jg_stl {x : Nat} (h : x < 2 ^ 16) : jg_st x < 2 ^ 16 := jg_s3l (jg_s2l (jg_s1l h))
theorem jg_itx (n x y : Nat) : jg_it n (x ^^^ y) = jg_it n x ^^^ jg_it n y := by
  induction n generalizing x y with
  | zero => rfl
  | succ n ih =>
    show jg_it n (jg_st (x ^^^ y)) = jg_it n (jg_st x) ^^^ jg_it n (jg_st y)
    rw [jg_stx, ih]
theorem jg_ita (m n x : Nat) : jg_it (m + n) x = jg_it m (jg_it n x) := by
  induction n generalizing x with
  | zero => rfl
  | succ n ih => exact ih (jg_st x)
theorem jg_itl {x : Nat} (n : Nat) (h : x < 2 ^ 16) : jg_it n x < 2 ^ 16 := by
  induction n generalizing x with
  | zero => exact h
  | succ n ih => exact ih (jg_stl h)
theorem jg_it0 (n : Nat) : jg_it n 0 = 0 := by
  induction n with
  | zero => rfl
  | succ n ih => exact ih
/-! a number by its binary digits -/
theorem jg_lowA {x i : Nat} (h : x / 2 ^ i % 2 = 1) : x % 2 ^ (i + 1) = 2 ^ i + x % 2 ^ i := by
  rw [Nat.mod_pow_succ, h, Nat.mul_one, Nat.add_comm]
theorem jg_lowF {x i : Nat} (h : x / 2 ^ i % 2 = 0) : x % 2 ^ (i + 1) = x % 2 ^ i := by
  rw [Nat.mod_pow_succ, h, Nat.mul_zero, Nat.add_zero]
theorem jg_lowT {x i : Nat} (h : x / 2 ^ i % 2 = 1) : x % 2 ^ (i + 1) = x % 2 ^ i ^^^ 2 ^ i := by
  have hb : x.testBit i = true := by
    rw [Nat.testBit_eq_decide_div_mod_eq]
    exact decide_eq_true h
  apply Nat.eq_of_testBit_eq
  intro j
  rw [Nat.testBit_xor, Nat.testBit_mod_two_pow, Nat.testBit_mod_two_pow, Nat.testBit_two_pow]
  rcases Nat.lt_trichotomy j i with g | g | g
  · simp [g, show j < i + 1 by omega, show ¬ i = j by omega]
  · subst g
    simp [hb]
  · simp [show ¬ j < i by omega, show ¬ j < i + 1 by omega, show ¬ i = j by omega]
/-- the exclusive sum of g i over the binary digits i < n of x -/
def jg_ap (g : Nat → Nat) (x : Nat) : Nat → Nat
  | 0 => 0
  | i + 1 => if x / 2 ^ i % 2 = 1 then jg_ap g x i ^^^ g i else jg_ap g x i
theorem jg_apI {g : Nat → Nat} {e x : Nat} : ∀ n, (∀ i, i < n → g i = jg_it e (2 ^ i)) → jg_ap g x n = jg_it e (x % 2 ^ n) := by
  intro n
  induction n with
  | zero =>
    intro _
    rw [Nat.pow_zero, Nat.mod_one, jg_it0]
    rfl
  | succ n ih =>
    intro h
    show (if x / 2 ^ n % 2 = 1 then jg_ap g x n ^^^ g n else jg_ap g x n) = _
    rw [ih (fun i hi => h i (by omega)), h n (by omega)]
    rcases Nat.mod_two_eq_zero_or_one (x / 2 ^ n) with z | z
    · rw [if_neg (by rw [z]; decide), jg_lowF z]
    · rw [if_pos z, jg_lowT z, jg_itx]
theorem jg_ap16 {g : Nat → Nat} {e x : Nat} (hx : x < 2 ^ 16) (h : ∀ i, i < 16 → g i = jg_it e (2 ^ i)) : jg_ap g x 16 = jg_it e x := by
  rw [jg_apI 16 h, Nat.mod_eq_of_lt hx]
def jg_T (k i : Nat) : Nat := (([
  [33153, 770, 1797, 3594, 7188, 14376, 28752, 57504, 49472, 769, 1538, 3076, 6152, 12304, 24608, 49216],
  [24609, 49475, 17095, 1039, 2335, 4670, 9340, 18680, 4464, 17344, 1537, 3331, 6662, 13324, 26648, 53296],
  [11787, 11334, 42233, 57771, 62150, 50540, 19352, 5809, 13355, 22060, 9696, 47888, 55105, 28355, 23559, 47375],
  [17913, 13076, 22287, 36827, 57136, 16229, 32972, 43933, 47848, 30900, 59213, 11100, 4157, 42364, 45826, 51369],
  [61313, 65314, 10263, 52147, 34190, 5715, 15148, 27989, 46575, 12760, 58919, 52052, 27973, 34877, 36000, 3629],
  [8480, 10176, 65107, 9157, 11318, 5307, 24556, 58677, 2992, 18643, 62376, 23387, 24763, 23169, 22616, 1757],
  [17802, 20627, 61861, 31816, 4972, 27534, 41095, 7138, 50560, 37644, 62871, 30244, 64068, 61310, 13223, 53538],
  [13449, 54388, 63100, 31201, 59948, 15085, 49410, 23188, 51568, 61447, 11162, 55853, 17333, 56799, 55142, 58972],
  [41484, 48810, 60051, 53155, 29631, 44591, 11326, 63549, 13220, 47569, 9128, 55644, 42673, 21650, 47493, 37835],
  [23480, 1494, 35189, 4219, 56808, 5061, 59500, 23453, 50391, 36512, 18262, 7350, 55937, 2484, 15282, 47113],
  [12857, 24891, 38116, 45781, 30274, 61898, 62494, 62257, 32239, 9489, 36788, 39026, 51977, 50340, 5522, 15433],
  [11736, 51846, 6901, 49477, 9663, 36696, 39050, 52025, 62400, 29316, 37676, 32159, 27067, 12400, 56602, 27801],
  [39498, 42450, 43225, 60900, 3500, 32542, 47175, 2850, 15039, 10137, 53390, 19402, 9456, 27558, 60215, 450],
  [47376, 39758, 59593, 17418, 37114, 53056, 10840, 35872, 8240, 55086, 9672, 18056, 31487, 44874, 12876, 11272],
  [4095, 64180, 44260, 51392, 28785, 41026, 49220, 32776, 61680, 20128, 18624, 2176, 256, 57856, 33792, 34816],
  [65280, 22015, 26282, 17612, 30856, 20720, 24736, 16576, 32639, 43690, 52428, 34952, 61680, 41120, 49344, 32896],
  [33153, 770, 1797, 3594, 7188, 14376, 28752, 57504, 49472, 769, 1538, 3076, 6152, 12304, 24608, 49216]
  ] : List (List Nat)).getD k []).getD i 0
def jg_C (k i : Nat) : Nat := (([
  [1, 2, 4, 8, 16, 32, 64, 128, 256, 512, 1024, 2048, 4096, 8192, 16384, 32768],
  [33153, 770, 1797, 3594, 7188, 14376, 28752, 57504, 49472, 769, 1538, 3076, 6152, 12304, 24608, 49216],
  [59801, 37875, 30295, 36238, 23260, 13624, 27505, 55010, 36132, 12945, 33922, 18885, 4874, 10005, 20010, 40020],
  [12071, 25735, 35235, 27761, 36039, 32328, 47594, 62854, 29249, 9682, 42520, 1255, 30891, 20752, 40026, 60697],
  [46518, 31564, 47880, 65295, 3595, 48625, 17575, 23753, 48066, 16300, 41671, 53915, 16593, 50919, 63414, 48444],
  [37152, 65075, 28549, 15798, 51131, 23020, 10549, 48861, 3437, 54430, 55557, 60891, 45270, 11756, 11352, 944],
  [31085, 47858, 54031, 40274, 5843, 7164, 60820, 46750, 5282, 65219, 45478, 5261, 29595, 35382, 41581, 40667],
  [38487, 45604, 54969, 36397, 8655, 38022, 45795, 30579, 12076, 18812, 53442, 56406, 4558, 60894, 44606, 64129],
  [17371, 17568, 28207, 26133, 57433, 63215, 51639, 43743, 41071, 23141, 15725, 35358, 19130, 65137, 45339, 60263],
  [18249, 52287, 14731, 19534, 19698, 430, 4910, 14846, 31966, 46391, 15966, 7011, 36268, 51434, 62198, 22993],
  [38204, 53526, 7900, 5350, 6232, 4183, 8171, 59984, 16806, 61835, 44841, 10631, 63080, 10900, 12113, 3315],
  [42146, 7328, 44674, 18311, 25586, 36531, 37635, 53824, 40793, 18815, 50931, 5614, 15314, 26704, 15353, 50275],
  [16674, 50025, 49505, 63968, 24572, 30254, 25400, 12854, 15229, 24006, 20001, 50314, 6554, 11712, 45273, 53795],
  [2884, 18212, 36185, 6317, 52559, 52359, 737, 6006, 3128, 53330, 45758, 31087, 6973, 31032, 34803, 43290],
  [29447, 50963, 10432, 27332, 63985, 15283, 1798, 44620, 30960, 17751, 51844, 60100, 33024, 39665, 9538, 43588],
  [33023, 32682, 43724, 52360, 35056, 61600, 41152, 49280, 65535, 54698, 26316, 17544, 30960, 20640, 24768, 16512],
  [1, 2, 4, 8, 16, 32, 64, 128, 256, 512, 1024, 2048, 4096, 8192, 16384, 32768]
  ] : List (List Nat)).getD k []).getD i 0
theorem jg_T0 : ∀ i, i < 16 → jg_T 0 i = jg_st (2 ^ i) := by decide +kernel
theorem jg_TS : ∀ k, k < 16 → ∀ i, i < 16 → jg_T (k + 1) i = jg_ap (jg_T k) (jg_T k i) 16 := by decide +kernel
theorem jg_C0 : ∀ i, i < 16 → jg_C 0 i = 2 ^ i := by decide +kernel
theorem jg_CS : ∀ k, k < 16 → ∀ i, i < 16 → jg_C (k + 1) i = jg_ap (jg_T k) (jg_C k i) 16 := by decide +kernel
theorem jg_CE : ∀ i, i < 16 → jg_C 16 i = 2 ^ i := by decide +kernel
theorem jg_2i {i : Nat} (h : i < 16) : 2 ^ i < 2 ^ 16 := Nat.pow_lt_pow_right (by decide) h
theorem jg_dbl (k x : Nat) : jg_it (2 ^ (k + 1)) x = jg_it (2 ^ k) (jg_it (2 ^ k) x) := by
  rw [← jg_ita, Nat.pow_succ, Nat.mul_two]
theorem jg_Tok : ∀ k, k ≤ 16 → ∀ i, i < 16 → jg_T k i = jg_it (2 ^ k) (2 ^ i) := by
  intro k
  induction k with
  | zero =>
    intro _ i hi
    rw [jg_T0 i hi, Nat.pow_zero]
    rfl
  | succ k ih =>
    intro hk i hi
    have h := ih (by omega)
    rw [jg_TS k (by omega) i hi, jg_ap16 (e := 2 ^ k) (by rw [h i hi]; exact jg_itl _ (jg_2i hi)) h, h i hi, jg_dbl]
theorem jg_Cok : ∀ k, k ≤ 16 → ∀ i, i < 16 → jg_C k i = jg_it (2 ^ k - 1) (2 ^ i) := by
  intro k
  induction k with
  | zero =>
    intro _ i hi
    rw [jg_C0 i hi, Nat.pow_zero]
    rfl
  | succ k ih =>
    intro hk i hi
    have h := ih (by omega)
    have hp : 0 < 2 ^ k := Nat.two_pow_pos k
    rw [jg_CS k (by omega) i hi, jg_ap16 (e := 2 ^ k) (by rw [h i hi]; exact jg_itl _ (jg_2i hi)) (jg_Tok k (by omega)), h i hi, ← jg_ita, show 2 ^ k + (2 ^ k - 1) = 2 ^ (k + 1) - 1 by rw [Nat.pow_succ]; omega]
/-- every state comes again after 65535 steps -/
theorem jg_perB {P : Nat} (hP : P = 2 ^ 16 - 1) {i : Nat} (hi : i < 16) : jg_it P (2 ^ i) = 2 ^ i := by
  rw [hP, ← jg_Cok 16 (Nat.le_refl 16) i hi]
  exact jg_CE i hi
theorem jg_perN {P : Nat} (hP : P = 2 ^ 16 - 1) (x : Nat) : ∀ n, n ≤ 16 → jg_it P (x % 2 ^ n) = x % 2 ^ n := by
  intro n
  induction n with
  | zero =>
    intro _
    rw [Nat.pow_zero, Nat.mod_one, jg_it0]
  | succ n ih =>
    intro hn
    rcases Nat.mod_two_eq_zero_or_one (x / 2 ^ n) with z | z
    · rw [jg_lowF z]
      exact ih (by omega)
    · rw [jg_lowT z, jg_itx, ih (by omega), jg_perB hP (by omega)]
theorem jg_per {P : Nat} (hP : P = 2 ^ 16 - 1) {x : Nat} (hx : x < 2 ^ 16) : jg_it P x = x := by
  have h := jg_perN hP x 16 (Nat.le_refl 16)
  rw [Nat.mod_eq_of_lt hx] at h
  exact h
theorem jg_perQ {P : Nat} (hP : P = 2 ^ 16 - 1) {x : Nat} (hx : x < 2 ^ 16) (q : Nat) : jg_it (P * q) x = x := by
  induction q with
  | zero => rfl
  | succ q ih => rw [Nat.mul_succ, jg_ita, jg_per hP hx, ih]
theorem jg_red {P : Nat} (hP : P = 2 ^ 16 - 1) {x : Nat} (hx : x < 2 ^ 16) (e : Nat) : jg_it e x = jg_it (e % P) x := by
  have h : jg_it (e % P + P * (e / P)) x = jg_it (e % P) x := by
    rw [jg_ita, jg_perQ hP hx]
  rw [Nat.mod_add_div] at h
  exact h
theorem jg_cong {x e e' : Nat} (hx : x < 2 ^ 16) (h : e % 65535 = e' % 65535) : jg_it e x = jg_it e' x := by
  have g : ∀ P, P = 65535 → e % P = e' % P := fun P hP => by rw [hP]; exact h
  have k : ∀ P, P = 65535 → jg_it e x = jg_it e' x := fun P hP => by
    have hP' : P = 2 ^ 16 - 1 := by omega
    rw [jg_red hP' hx e, jg_red hP' hx e', g P hP]
  exact k _ rfl
theorem jg_id {x e : Nat} (hx : x < 2 ^ 16) (h : e % 65535 = 0) : jg_it e x = x := jg_cong (e' := 0) hx (by omega)
theorem jg_back {x n m : Nat} (hx : x < 2 ^ 16) (h : (m + n) % 65535 = 0) : jg_it m (jg_it n x) = x := by
  rw [← jg_ita]
  exact jg_id hx h
theorem jg_nz {x : Nat} (n : Nat) (hx : x < 2 ^ 16) (h0 : 1 ≤ x) : 1 ≤ jg_it n x := by
  rcases Nat.eq_zero_or_pos (jg_it n x) with z | z
  · have h : jg_it (n * 65534) (jg_it n x) = x := jg_back hx (by omega)
    rw [z, jg_it0] at h
    omega
  · exact z
/-! rows of states -/
theorem jg_mxl {x : Nat} (n : Nat) (h : x < 2 ^ 16) : jg_mx n x < 2 ^ 16 := by
  induction n with
  | zero => exact Nat.two_pow_pos 16
  | succ n ih => exact Nat.xor_lt_two_pow ih (jg_itl n h)
theorem jg_mxa (a b x : Nat) : jg_mx (a + b) x = jg_mx a x ^^^ jg_it a (jg_mx b x) := by
  induction b with
  | zero =>
    show jg_mx a x = jg_mx a x ^^^ jg_it a 0
    rw [jg_it0, Nat.xor_zero]
  | succ b ih =>
    show jg_mx (a + b) x ^^^ jg_it (a + b) x = jg_mx a x ^^^ jg_it a (jg_mx b x ^^^ jg_it b x)
    rw [ih, jg_itx, jg_ita, Nat.xor_assoc]
theorem jg_mxi (a b x : Nat) : jg_mx b (jg_it a x) = jg_it a (jg_mx b x) := by
  induction b with
  | zero =>
    show 0 = jg_it a 0
    rw [jg_it0]
  | succ b ih =>
    show jg_mx b (jg_it a x) ^^^ jg_it b (jg_it a x) = jg_it a (jg_mx b x ^^^ jg_it b x)
    rw [ih, jg_itx, ← jg_ita, ← jg_ita, Nat.add_comm]
theorem jg_mxx (n m x : Nat) : jg_mx m (jg_it n x) = jg_mx (n + m) x ^^^ jg_mx n x := by
  rw [jg_mxi, jg_mxa, Nat.xor_comm, ← Nat.xor_assoc, Nat.xor_self, Nat.zero_xor]
end
section
/-! ints as naturals: exclusive sums, binary digits, one step, remainders -/
theorem jg_xor (a b : Nat) : nI a ^^^ nI b = nI (a ^^^ b) := by
  apply Int32.toBitVec_inj.1
  show BitVec.ofNat 32 a ^^^ BitVec.ofNat 32 b = BitVec.ofNat 32 (a ^^^ b)
  apply BitVec.eq_of_getLsbD_eq
  intro i hi
  simp [hi]
theorem jg_sl : ∀ n, n < 32 → ((nI n &&& 31).toBitVec.smod 32).toNat = n := by decide +kernel
theorem jg_bit {x k : Nat} (hx : x < 2 ^ 31) (hk : k < 32) : (nI x >>> (nI k &&& 31)) &&& 1 = nI (x / 2 ^ k % 2) := by
  have hd : x / 2 ^ k ≤ x := Nat.div_le_self _ _
  rw [pk_shrN hx (nI k &&& 31) k (jg_sl k hk), pk_andN (m := 1) (by omega) 1 (by decide)]
theorem jg_br {A B : Prop} {x k : Nat} (hx : x < 2 ^ 31) (hk : k < 32) (f : x / 2 ^ k % 2 = 0 → A) (g : x / 2 ^ k % 2 = 1 → B) : (((nI x >>> (nI k &&& 31)) &&& 1) = 0 → A) ∧ (¬ ((nI x >>> (nI k &&& 31)) &&& 1) = 0 → B) := by
  rw [jg_bit hx hk]
  rcases Nat.mod_two_eq_zero_or_one (x / 2 ^ k) with z | z
  · rw [z]
    exact br_t rfl (f z)
  · rw [z]
    exact br_f (by decide) (g z)
theorem jg_i1 {x : Nat} (h : x < 2 ^ 16) : nI x ^^^ ((nI x <<< ((7 : Int32) &&& 31)) &&& 65535) = nI (jg_s1 x) := by
  rw [pk_shlN ((7 : Int32) &&& 31) 7 (by decide) (by omega), pk_andN (m := 65535) (by omega) 16 (by decide), jg_xor]
  unfold jg_s1
  rw [Nat.shiftLeft_eq]
theorem jg_i2 {x : Nat} (h : x < 2 ^ 16) : nI x ^^^ (nI x >>> ((9 : Int32) &&& 31)) = nI (jg_s2 x) := by
  rw [pk_shrN (by omega) ((9 : Int32) &&& 31) 9 (by decide), jg_xor]
  unfold jg_s2
  rw [Nat.shiftRight_eq_div_pow]
theorem jg_i3 {x : Nat} (h : x < 2 ^ 16) : nI x ^^^ ((nI x <<< ((8 : Int32) &&& 31)) &&& 65535) = nI (jg_s3 x) := by
  rw [pk_shlN ((8 : Int32) &&& 31) 8 (by decide) (by omega), pk_andN (m := 65535) (by omega) 16 (by decide), jg_xor]
  unfold jg_s3
  rw [Nat.shiftLeft_eq]
theorem jg_one : ∀ i, i < 16 → (1 : Int32) <<< (nI i &&& 31) = nI (2 ^ i) := by decide +kernel
theorem jg_ix (k i : Nat) : nI k * 16 + nI i = nI (k * 16 + i) := by
  show nI k * nI 16 + nI i = _
  rw [pk_mul, nI_add]
theorem jg_rem (p : Int32) : ∃ r : Int, (p - p / 65535 * 65535).toInt = r ∧ -65535 < r ∧ r < 65535 ∧ r % 65535 = p.toInt % 65535 := by
  have c : (65535 : Int32).toInt = 65535 := by decide
  have a := Int32.le_toInt p
  have b := Int32.toInt_lt p
  have e : (p / 65535).toInt = p.toInt.tdiv 65535 := by
    rw [Int32.toInt_div_of_ne_right p 65535 (by decide), c]
  have q : ∃ q : Int, (p / 65535).toInt = q ∧ -65535 < p.toInt - q * 65535 ∧ p.toInt - q * 65535 < 65535 ∧ -2147483648 ≤ q * 65535 ∧ q * 65535 < 2147483648 := by
    rw [e]
    rcases Int.le_total 0 p.toInt with h | h
    · refine ⟨p.toInt / 65535, Int.tdiv_eq_ediv_of_nonneg h, ?_, ?_, ?_, ?_⟩ <;> omega
    · refine ⟨-((-p.toInt) / 65535), ?_, ?_, ?_, ?_, ?_⟩
      · have n := Int.neg_tdiv (-p.toInt) 65535
        rw [Int.neg_neg] at n
        rw [n, Int.tdiv_eq_ediv_of_nonneg (by omega)]
      · omega
      · omega
      · omega
      · omega
  obtain ⟨q, e1, e2, e3, e4, e5⟩ := q
  have m : (p / 65535 * 65535).toInt = q * 65535 := by
    rw [Int32.toInt_mul, e1, c]
    exact Int.bmod_eq_of_le (by omega) (by omega)
  refine ⟨p.toInt - q * 65535, ?_, e2, e3, by omega⟩
  rw [Int32.toInt_sub, m]
  exact Int.bmod_eq_of_le (by omega) (by omega)
theorem jg_inN {x : Int32} {n : Nat} (hn : n < 2 ^ 31) (h : x.toInt = (n : Int)) : x = nI n := Int32.toInt_inj.mp (by rw [nI_toInt hn, h])
theorem jg_far0 {p : Int32} {q : Int} (hq : p.toInt = q) (h : -100000 ≤ q) : ¬ p < (-100000) := by
  rw [Int32.lt_iff_toInt_lt, hq, show (-100000 : Int32).toInt = -100000 by decide]
  omega
theorem jg_far1 {p : Int32} {q : Int} (hq : p.toInt = q) (h : q ≤ 100000) : p ≤ 100000 := by
  rw [Int32.le_iff_toInt_le, hq, show (100000 : Int32).toInt = 100000 by decide]
  exact h
end
section
/-! one lemma a method; what the images hold: jg_im -/
def jg_im (a : Nat → Int32) : Prop := ∀ k, k ≤ 16 → ∀ i, i < 16 → a (k * 16 + i) = nI (jg_it (2 ^ k) (2 ^ i))
theorem jg_step {post : Int32 → Prop} {p : Int32} {x : Nat} (hx : x < 2 ^ 16) (hp : p = nI x) (h : post (nI (jg_st x))) : wpX_step post () p := by
  subst hp
  unfold wpX_step
  refine nm_r (jg_i1 hx) (nm_r (jg_i2 (jg_s1l hx)) ?_)
  rw [jg_i3 (jg_s2l (jg_s1l hx))]
  exact h
theorem jg_apply {post : Int32 → Prop} {f : Int32} {a1 a2 a3 a4 : Nat → Int32} {k x : Nat} {p0 p1 : Int32} (h0 : p0 = nI k) (h1 : p1 = nI x) (hk : k ≤ 16) (hx : x < 2 ^ 16) (ha : ∀ i, i < 16 → a2 (k * 16 + i) = nI (jg_it (2 ^ k) (2 ^ i))) (hp : post (nI (jg_it (2 ^ k) x))) : wpX_apply post (f, a1, a2, a3, a4) p0 p1 := by
  subst h0 h1
  refine pk_loop (fun n i s => wX_apply_5 post (nI k) (nI x) f a1 a2 a3 a4 n s (nI i)) (fun i s => s = nI (jg_it (2 ^ k) (x % 2 ^ i))) 16 0 0 (by omega) ?_ ?_ ?_
  · rw [Nat.pow_zero, Nat.mod_one, jg_it0]
    rfl
  · intro n s h
    refine pk_le 16 16 (fun _ => ?_) (fun z => absurd z (by omega))
    rw [h, Nat.mod_eq_of_lt hx]
    exact hp
  · intro n i s hi h hw
    refine pk_le 16 i (fun z => absurd z (by omega)) (fun _ => jg_br (by omega) (by omega) (fun hb => ?_) (fun hb => ⟨pk_in (k * 16 + i) 272 (by omega) (jg_ix k i), ?_⟩))
    · exact nm_r (nI_1 i) (hw _ (by rw [h, jg_lowF hb]))
    · refine nm_r (e' := nI (jg_it (2 ^ k) (x % 2 ^ (i + 1)))) ?_ (nm_r (nI_1 i) (hw _ rfl))
      rw [jg_ix, nI_clamp (by omega), h, ha i hi, jg_xor, jg_lowT hb, jg_itx]
theorem jg_w24 {post : Int32 → Prop} {f : Int32} {a1 a2 a3 a4 : Nat → Int32} {l x : Nat} (hl : l < 2 ^ 16) (hx : x < 2 ^ 16) (ha : jg_im a2) (hp : post (nI (jg_it l x))) : ∃ n, wX_wind_24 post (nI l) f a1 a2 a3 a4 n (nI x) 0 := by
  refine pk_loop (fun n i s => wX_wind_24 post (nI l) f a1 a2 a3 a4 n s (nI i)) (fun i s => s = nI (jg_it (l % 2 ^ i) x)) 16 0 (nI x) (by omega) ?_ ?_ ?_
  · rw [Nat.pow_zero, Nat.mod_one]
    rfl
  · intro n s h
    refine pk_le 16 16 (fun _ => ?_) (fun z => absurd z (by omega))
    rw [h, Nat.mod_eq_of_lt hl]
    exact hp
  · intro n i s hi h hw
    refine pk_le 16 i (fun z => absurd z (by omega)) (fun _ => jg_br (by omega) (by omega) (fun hb => ?_) (fun hb => ?_))
    · exact nm_r (nI_1 i) (hw _ (by rw [h, jg_lowF hb]))
    · refine jg_apply (k := i) rfl h (by omega) (jg_itl _ hx) (ha i (by omega)) (nm_r (nI_1 i) (hw _ ?_))
      rw [jg_lowA hb, jg_ita]
theorem jg_wind {post : Int32 → Prop} {f : Int32} {a1 a2 a3 a4 : Nat → Int32} {x y : Nat} {p0 p : Int32} {q : Int} (e : Nat) (ha : jg_im a2) (hx : x < 2 ^ 16) (h0 : p0 = nI x) (hq : p.toInt = q) (he : q % 65535 = (e : Int) % 65535) (hy : jg_it e x = y) (hp : post (nI y)) : wpX_wind post (f, a1, a2, a3, a4) p0 p := by
  subst h0
  obtain ⟨r, r1, r2, r3, r4⟩ := jg_rem p
  have fin : ∀ (l : Nat), l < 65535 → (l : Int) % 65535 = (e : Int) % 65535 → ∃ n, wX_wind_24 post (nI l) f a1 a2 a3 a4 n (nI x) 0 := by
    intro l hl h
    refine jg_w24 (by omega) hx ha ?_
    rw [jg_cong (e := l) (e' := e) hx (by omega), hy]
    exact hp
  refine ⟨by decide, ?_⟩
  intro z hz
  rw [← hz] at r1
  refine br_c (fun h => ?_) (fun h => ?_)
  · rw [Int32.le_iff_toInt_le, r1, show (0 : Int32).toInt = 0 by decide] at h
    obtain ⟨l, hl⟩ := Int.eq_ofNat_of_zero_le h
    have t := fin l (by omega) (by omega)
    rw [jg_inN (x := z) (n := l) (by omega) (by rw [r1]; exact hl)]
    exact t
  · rw [Int32.le_iff_toInt_le, r1, show (0 : Int32).toInt = 0 by decide] at h
    intro w hw
    obtain ⟨l, hl⟩ := Int.eq_ofNat_of_zero_le (show 0 ≤ r + 65535 by omega)
    have t := fin l (by omega) (by omega)
    have ew : w = nI l := by
      apply jg_inN (by omega)
      rw [hw, Int32.toInt_add, r1, show (65535 : Int32).toInt = 65535 by decide, hl]
      exact Int.bmod_eq_of_le (by omega) (by omega)
    rw [ew]
    exact t
theorem jg_isS {post : Int32 → Prop} {p : Int32} {x : Nat} (h0 : p = nI x) (h1 : 1 ≤ x) (h2 : x < 2 ^ 16) (h : post 1) : wpX_isState post () p := by
  subst h0
  exact pk_lt x 1 (fun z => absurd z (by omega)) (fun _ => pk_lt 65535 x (fun z => absurd z (by omega)) (fun _ => h))
theorem jg_isM {post : Int32 → Prop} {p : Int32} {x : Nat} (h0 : p = nI x) (h2 : x < 8) (h : post 1) : wpX_isMark post () p := by
  subst h0
  exact pk_lt x 0 (fun z => absurd z (by omega)) (fun _ => pk_le 8 x (fun z => absurd z (by omega)) (fun _ => h))
theorem jg_state {post : Int32 → Prop} {f : Int32} {a1 a2 a3 a4 : Nat → Int32} (h : post f) : wpX_state post (f, a1, a2, a3, a4) := h
theorem jg_peek {post : Int32 → Prop} {a1 a2 a3 a4 : Nat → Int32} {x y : Nat} {p : Int32} {q : Int} (e : Nat) (ha : jg_im a2) (hx : x < 2 ^ 16) (hq : p.toInt = q) (q0 : -100000 ≤ q) (q1 : q ≤ 100000) (he : q % 65535 = (e : Int) % 65535) (hy : jg_it e x = y) (hp : post (nI y)) : wpX_peek post (nI x, a1, a2, a3, a4) p :=
  br_f (jg_far0 hq q0) (br_t (jg_far1 hq q1) (jg_wind e ha hx rfl hq he hy hp))
theorem jg_jump {post : Int32 → St1 → Prop} {a1 a2 a3 a4 : Nat → Int32} {x y : Nat} {p : Int32} {q : Int} (e : Nat) (ha : jg_im a2) (hx : x < 2 ^ 16) (hq : p.toInt = q) (q0 : -100000 ≤ q) (q1 : q ≤ 100000) (he : q % 65535 = (e : Int) % 65535) (hy : jg_it e x = y) (hp : post (nI y) (nI y, a1, a2, a3, a4)) : wpX_jump post (nI x, a1, a2, a3, a4) p :=
  br_f (jg_far0 hq q0) (br_t (jg_far1 hq q1) (jg_wind e ha hx rfl hq he hy hp))
theorem jg_before {post : Int32 → Prop} {f : Int32} {a1 a2 a3 a4 : Nat → Int32} {x y n : Nat} {p0 : Int32} (e : Nat) (ha : jg_im a2) (h0 : p0 = nI x) (hx : x < 2 ^ 16) (hx1 : 1 ≤ x) (hn : n ≤ 100000) (he : (-(n : Int)) % 65535 = (e : Int) % 65535) (hy : jg_it e x = y) (hp : post (nI y)) : wpX_before post (f, a1, a2, a3, a4) p0 (nI n) := by
  unfold wpX_before
  refine jg_isS h0 hx1 hx (br_f (by decide) (br_f (nI_pos (by omega)) (pk_lt 100000 n (fun z => absurd z (by omega)) (fun _ => ?_))))
  exact jg_wind e ha hx h0 (sb_negT (by omega)) he hy hp
theorem jg_apart {post : Int32 → Prop} {f : Int32} {a1 a2 a3 a4 : Nat → Int32} {x t n : Nat} (ha : jg_im a2) (hx : x < 2 ^ 16) (hx1 : 1 ≤ x) (ht : t < 2 ^ 16) (ht1 : 1 ≤ t) (hn : n ≤ 100000) (hp : post (nI (jg_it n (x ^^^ t)))) : wpX_apart post (f, a1, a2, a3, a4) (nI x) (nI t) (nI n) := by
  unfold wpX_apart
  refine jg_isS rfl hx1 hx (br_f (by decide) (jg_isS rfl ht1 ht (br_f (by decide) (br_f (nI_pos (by omega)) (pk_lt 100000 n (fun z => absurd z (by omega)) (fun _ => ?_))))))
  exact jg_wind n ha (Nat.xor_lt_two_pow hx ht) (jg_xor x t) (nI_toInt (by omega)) rfl rfl hp
theorem jg_seed {post : Int32 → St1 → Prop} {f : Int32} {a1 a2 a3 a4 : Nat → Int32} {p : Int32} {x : Nat} (h0 : p = nI x) (h1 : 1 ≤ x) (h2 : x < 2 ^ 16) (h : post 1 (nI x, a1, a2, a3, a4)) : wpX_seed post (f, a1, a2, a3, a4) p := by
  subst h0
  unfold wpX_seed
  exact jg_isS rfl h1 h2 (br_f (by decide) h)
theorem jg_mark {post : Int32 → St1 → Prop} {f : Int32} {a1 a2 a3 a4 : Nat → Int32} {p : Int32} {m : Nat} (h0 : p = nI m) (h2 : m < 8) (h : ∀ a, post 1 (f, a, a2, a3, a4)) : wpX_mark post (f, a1, a2, a3, a4) p := by
  subst h0
  unfold wpX_mark
  exact jg_isM rfl h2 (br_f (by decide) ⟨pk_in m 8 h2, fun a _ => h a⟩)
theorem jg_m20 {post : Int32 → Prop} {a1 a2 a3 a4 : Nat → Int32} {c N : Nat} (ha : jg_im a2) (hc : c < 2 ^ 16) (hN : N < 2 ^ 17) (hp : post (nI (jg_mx N c))) : wX_mixed_20 post (nI N) (nI c) a1 a2 a3 a4 18 0 0 (nI 17 + (-1)) := by
  refine pk_loopD (fun n i (s : Int32 × Int32) => wX_mixed_20 post (nI N) (nI c) a1 a2 a3 a4 n s.1 s.2 (nI i + (-1))) (fun i s => i ≤ 17 ∧ s = (nI (jg_mx (N / 2 ^ i) c), nI (N / 2 ^ i))) ?_ ?_ 17 (0, 0) ?_
  · intro n s h
    obtain ⟨_, rfl⟩ := h
    refine br_t (by decide) ?_
    rw [Nat.pow_zero, Nat.div_one]
    exact hp
  · intro n i s h hw
    obtain ⟨hi, rfl⟩ := h
    have hM : N / 2 ^ i = N / 2 ^ (i + 1) + N / 2 ^ (i + 1) + N / 2 ^ i % 2 := by
      rw [Nat.pow_succ, ← Nat.div_div_eq_div_mul]
      omega
    have hMl : N / 2 ^ (i + 1) ≤ N / 2 := Nat.div_le_div_left (by rw [Nat.pow_succ]; have := Nat.two_pow_pos i; omega) (by decide)
    show wX_mixed_20 post (nI N) (nI c) a1 a2 a3 a4 (n + 1) (nI (jg_mx (N / 2 ^ (i + 1)) c)) (nI (N / 2 ^ (i + 1))) (nI (i + 1) + (-1))
    rw [pk_m1]
    generalize N / 2 ^ (i + 1) = M at hM hMl
    refine br_f (nI_pos (by omega)) (jg_wind M ha (jg_mxl M hc) rfl (nI_toInt (by omega)) rfl rfl ?_)
    refine nm_r (e' := nI (jg_mx (M + M) c)) (by rw [jg_xor, ← jg_mxa]) (nm_r (e' := nI (M + M)) ?_ ?_)
    · show nI M * nI 2 = _
      rw [pk_mul, Nat.mul_two]
    · refine jg_br (by omega) (by omega) (fun hb => nm_e ?_) (fun hb => ?_)
      · refine hw (nI (jg_mx (M + M) c), nI (M + M)) ⟨by omega, ?_⟩
        rw [hM, hb, Nat.add_zero]
      · refine jg_wind (M + M) ha hc rfl (nI_toInt (by omega)) rfl rfl ?_
        refine nm_r (e' := nI (jg_mx (M + M + 1) c)) (jg_xor _ _) (nm_r (nI_1 (M + M)) (nm_e ?_))
        refine hw (nI (jg_mx (M + M + 1) c), nI (M + M + 1)) ⟨by omega, ?_⟩
        rw [hM, hb]
  · refine ⟨Nat.le_refl 17, ?_⟩
    rw [Nat.div_eq_of_lt hN]
    rfl
theorem jg_mixed {post : Int32 → Prop} {a1 a2 a3 a4 : Nat → Int32} {c N : Nat} {p : Int32} (ha : jg_im a2) (hc : c < 2 ^ 16) (h0 : p = nI N) (hN : N ≤ 100000) (hp : post (nI (jg_mx N c))) : wpX_mixed post (nI c, a1, a2, a3, a4) p := by
  subst h0
  have t := jg_m20 (a1 := a1) (a3 := a3) (a4 := a4) ha hc (show N < 2 ^ 17 by omega) hp
  rw [show nI 17 + (-1) = (16 : Int32) by decide] at t
  exact br_f (nI_pos (by omega)) (pk_le N 100000 (fun _ => ⟨18, t⟩) (fun z => absurd z (by omega)))
theorem jg_pick {post : Int32 → Prop} {L : Nat} {xs : Nat → Int32} {p : Int32} {k : Nat} (N : Nat) (hL : L ≤ 260) (h0 : p = nI k) (hk : k < 1000) (hN : 0 < N) (hN2 : N < 2 ^ 31) (h : ∀ r, r < N → post (nI r)) : wpL_pick post L xs () p (nI N) := by
  subst h0
  refine pk_le L k (fun _ => ⟨nI_ne0 hN hN2, ?_⟩) (fun z => ⟨pk_in k L z, nm_e ⟨nI_ne0 hN hN2, ?_⟩⟩)
  · rw [show (0 : Int32) &&& 2147483647 = nI 0 by decide, pk_rem (by omega) hN hN2]
    exact h _ (Nat.mod_lt _ hN)
  · rw [pk_and _ 31 (m := 2147483647) (by decide), pk_rem (Nat.mod_lt _ (by decide)) hN hN2]
    exact h _ (Nat.mod_lt _ hN)
end
section
/-! the constructor fills the images -/
theorem jg_80 {post : St1 → Prop} {mc ms kc ks : Nat} {J : Int32 → (Nat → Int32) → (Nat → Int32) → (Nat → Int32) → (Nat → Int32) → Prop} {f : Int32} {a1 a2 a3 a4 : Nat → Int32} {k : Nat} (hk : k < 16)
    (ha : ∀ j, j ≤ k → ∀ i, i < 16 → a2 (j * 16 + i) = nI (jg_it (2 ^ j) (2 ^ i)))
    (hJ : ∀ a, (∀ j, j ≤ k + 1 → ∀ i, i < 16 → a (j * 16 + i) = nI (jg_it (2 ^ j) (2 ^ i))) → J (nI (k + 2)) a1 a a3 a4) :
    ∃ n, wX_init_80 post mc ms J (nI (k + 1)) kc ks f n 0 a1 a2 a3 a4 := by
  refine pk_loop (fun n i s => wX_init_80 post mc ms J (nI (k + 1)) kc ks f n (nI i) a1 s a3 a4) (fun i s => (∀ j, j ≤ k → ∀ i, i < 16 → s (j * 16 + i) = nI (jg_it (2 ^ j) (2 ^ i))) ∧ ∀ j, j < i → s ((k + 1) * 16 + j) = nI (jg_it (2 ^ (k + 1)) (2 ^ j))) 16 0 a2 (by omega) ⟨ha, fun j hj => absurd hj (by omega)⟩ ?_ ?_
  · intro n s h
    refine pk_le 16 16 (fun _ => nm_r (nI_1 (k + 1)) (hJ s ?_)) (fun z => absurd z (by omega))
    intro j hj i hi
    by_cases e : j = k + 1
    · rw [e]
      exact h.2 i hi
    · exact h.1 j (by omega) i hi
  · intro n i s hi h hw
    obtain ⟨h1, h2⟩ := h
    show wX_init_80 post mc ms J (nI (k + 1)) kc ks f (n + 1) (nI i) a1 s a3 a4
    refine pk_le 16 i (fun z => absurd z (by omega)) (fun _ => ⟨pk_in (k * 16 + i) 272 (by omega) (by rw [nI_pred, jg_ix]), ?_⟩)
    refine nm_r (e' := nI (jg_it (2 ^ k) (2 ^ i))) (by rw [nI_pred, jg_ix, nI_clamp (by omega), h1 k (Nat.le_refl k) i hi]) ?_
    refine jg_apply (k := k) (nI_pred k) rfl (by omega) (jg_itl _ (jg_2i hi)) (h1 k (Nat.le_refl k)) ⟨pk_in ((k + 1) * 16 + i) 272 (by omega) (jg_ix (k + 1) i), ?_⟩
    refine nm_r (e' := upd s ((k + 1) * 16 + i) (nI (jg_it (2 ^ (k + 1)) (2 ^ i)))) (by rw [jg_ix, nI_clamp (by omega), jg_dbl]) (nm_r (nI_1 i) (hw _ ⟨?_, ?_⟩))
    · intro j hj i' hi'
      rw [pk_un (by omega)]
      exact h1 j hj i' hi'
    · intro j hj
      by_cases e : j = i
      · rw [e, pk_us]
      · rw [pk_un (by omega)]
        exact h2 j (by omega)
theorem jg_72 {post : St1 → Prop} {mc ms kc ks : Nat} {f : Int32} {a1 a2 a3 a4 : Nat → Int32}
    (ha : ∀ i, i < 16 → a2 i = nI (jg_st (2 ^ i)))
    (hp : ∀ a, jg_im a → post (f, a1, a, a3, a4)) :
    ∃ n, wX_init_72 post mc ms kc ks f n 1 a1 a2 a3 a4 := by
  refine pk_loop (fun n k s => wX_init_72 post mc ms kc ks f n (nI (k + 1)) a1 s a3 a4) (fun k s => ∀ j, j ≤ k → ∀ i, i < 16 → s (j * 16 + i) = nI (jg_it (2 ^ j) (2 ^ i))) 16 0 a2 (by omega) ?_ ?_ ?_
  · intro j hj i hi
    have e : j = 0 := by omega
    rw [e, Nat.zero_mul, Nat.zero_add, ha i hi, Nat.pow_zero]
    rfl
  · intro n s h
    exact pk_lt 16 17 (fun _ => hp s h) (fun z => absurd z (by omega))
  · intro n k s hk h hw
    exact pk_lt 16 (k + 1) (fun z => absurd z (by omega)) (fun _ => jg_80 hk h (fun a h' => hw a h'))
theorem jg_init {post : St1 → Prop} {f : Int32} (hp : ∀ a, jg_im a → post (1, (fun _ => 0), a, (fun _ => 0), (fun _ => 0))) : wpX_init post 4 2328 f := by
  refine ⟨by omega, by omega, by omega, by omega, by omega, by omega, by omega, by omega, ?_⟩
  refine pk_loop (fun n i s => wX_init_46 post 4 2328 4 2328 1 n (nI i) (fun _ => 0) s (fun _ => 0) (fun _ => 0)) (fun i s => ∀ j, j < i → s j = nI (jg_st (2 ^ j))) 16 0 (fun _ => 0) (by omega) (fun j hj => absurd hj (by omega)) ?_ ?_
  · intro n s h
    exact pk_le 16 16 (fun _ => jg_72 h hp) (fun z => absurd z (by omega))
  · intro n i s hi h hw
    refine pk_le 16 i (fun z => absurd z (by omega)) (fun _ => jg_step (jg_2i hi) (jg_one i hi) ⟨pk_in i 272 (by omega), ?_⟩)
    refine nm_r (e' := upd s i (nI (jg_st (2 ^ i)))) (by rw [nI_clamp (by omega)]) (nm_r (nI_1 i) (hw _ ?_))
    intro j hj
    by_cases e : j = i
    · rw [e, pk_us]
    · rw [pk_un e]
      exact h j (by omega)
end
section
/-! the law: the end behind the loop, one turn, the loop -/
theorem jg_xz {c t : Nat} (h : c ^^^ t = 0) : c = t := by
  have g : (c ^^^ t) ^^^ t = c := by rw [Nat.xor_assoc, Nat.xor_self, Nat.xor_zero]
  rw [h, Nat.zero_xor] at g
  exact g.symm
theorem jg_349 {post : Int32 → Prop} {L kc ks : Nat} {xs : Nat → Int32} {n t c : Nat} {f : Int32} {A1 A2 A3 A4 B1 B2 B3 B4 : Nat → Int32} (hA : jg_im A2) (hB : jg_im B2) (hn : n ≤ 50000) (ht : t < 2 ^ 16) (ht1 : 1 ≤ t) (hc : c < 2 ^ 16) (hd : 1 ≤ c ^^^ t) (hp : post 1) :
    wL_law_349 post L xs (nI n) (nI t) (nI c) (nI (jg_it n c)) (nI (jg_it n (c ^^^ t))) 1 kc ks (nI c) A1 A2 A3 A4 f B1 B2 B3 B4 := by
  have hx : c ^^^ t < 2 ^ 16 := Nat.xor_lt_two_pow hc ht
  unfold wL_law_349
  refine jg_seed rfl ht1 ht (br_f (by decide) (br_f (by decide) ?_))
  refine jg_peek n hB ht (nI_toInt (by omega)) (by omega) (by omega) rfl rfl (br_t ?_ ?_)
  · rw [jg_xor, ← jg_itx, ← Nat.xor_assoc, Nat.xor_self, Nat.zero_xor]
  · refine jg_before (131070 - n) hA rfl (jg_itl n hx) (jg_nz n hx hd) (by omega) (by omega) (jg_back hx (by omega)) (br_t ?_ hp)
    rw [jg_xor]
theorem jg_end {post : Int32 → Prop} {L kc ks : Nat} {xs : Nat → Int32} {n m t c i k : Nat} {A1 A2 A3 A4 B1 B2 B3 B4 : Nat → Int32} (hA : jg_im A2) (hB : jg_im B2) (hn : n ≤ 50000) (hm : m ≤ 50000) (ht : t < 2 ^ 16) (ht1 : 1 ≤ t) (hc : c < 2 ^ 16) (hc1 : 1 ≤ c) (hL : L ≤ 260) (hi : L ≤ i) (hi2 : i < 1000) (hp : post 1) :
    wL_law_47 post L xs (nI n) (nI m) (nI t) kc ks (k + 1) (nI i) (nI c) A1 A2 A3 A4 (nI c) B1 B2 B3 B4 := by
  refine pk_le L i (fun _ => ?_) (fun z => absurd z (by omega))
  refine jg_state ?_
  refine jg_peek n hA hc (nI_toInt (by omega)) (by omega) (by omega) rfl rfl ?_
  refine jg_mixed hA hc (nI_add n m) (by omega) ?_
  refine jg_mixed hA hc rfl (by omega) ?_
  refine jg_apart hA hc hc1 ht ht1 (by omega) ?_
  refine jg_state (br_t rfl ?_)
  refine jg_jump n hB hc (nI_toInt (by omega)) (by omega) (by omega) rfl rfl (br_t rfl ?_)
  refine jg_mixed hB (jg_itl n hc) rfl (by omega) (br_t ?_ ?_)
  · rw [jg_xor, jg_mxx]
  · refine jg_before (131070 - n) hB rfl (jg_itl n hc) (jg_nz n hc hc1) (by omega) (by omega) (jg_back hc (by omega)) (br_t rfl ?_)
    refine pk_eq c t (fun e => br_t ?_ hp) (fun e => ?_)
    · rw [e, Nat.xor_self, jg_it0]
      rfl
    · have hd : 1 ≤ c ^^^ t := by
        rcases Nat.eq_zero_or_pos (c ^^^ t) with z | z
        · exact absurd (jg_xz z) e
        · exact z
      have hx : c ^^^ t < 2 ^ 16 := Nat.xor_lt_two_pow hc ht
      refine jg_seed (jg_xor c t) hd hx (br_f (by decide) ?_)
      refine jg_peek n hB hx (nI_toInt (by omega)) (by omega) (by omega) rfl rfl (br_t rfl ?_)
      exact jg_349 hA hB hn ht ht1 hc hd hp
theorem jg_turn {post : Int32 → Prop} {L kc ks : Nat} {xs : Nat → Int32} {x3 x4 x5 : Int32} {c i k : Nat} {A1 A2 A3 A4 B1 B2 B3 B4 : Nat → Int32} (hA : jg_im A2) (hB : jg_im B2) (hc : c < 2 ^ 16) (hc1 : 1 ≤ c) (hL : L ≤ 260) (hi : i < L)
    (hw : ∀ d a b, d < 2 ^ 16 → 1 ≤ d → wL_law_47 post L xs x3 x4 x5 kc ks k (nI (i + 2)) (nI d) a A2 A3 A4 (nI d) b B2 B3 B4) :
    wL_law_47 post L xs x3 x4 x5 kc ks (k + 1) (nI i) (nI c) A1 A2 A3 A4 (nI c) B1 B2 B3 B4 := by
  refine pk_le L i (fun z => absurd z (by omega)) (fun _ => ?_)
  refine jg_pick 8 hL rfl (by omega) (by omega) (by omega) (fun o ho => ?_)
  refine jg_pick 100001 hL (nI_1 i) (by omega) (by omega) (by omega) (fun v hv => ?_)
  refine ⟨by decide, nm_r (e' := nI (v / 3)) (pk_div (d := 3) (by omega) (by omega) (by omega)) ?_⟩
  refine pk_lt 2 o (fun _ => pk_lt 4 o (fun _ => pk_lt 6 o (fun _ => ?_) (fun _ => ?_)) (fun _ => ?_)) (fun _ => ⟨by decide, ?_⟩)
  · have e7 : nI v &&& 7 = nI (v % 8) := pk_andN (m := 7) (by omega) 3 (by decide)
    refine jg_mark e7 (by omega) (fun a => ?_)
    refine jg_mark e7 (by omega) (fun b => br_t rfl (nm_r (nI_add i 2) ?_))
    exact hw c a b hc hc1
  · refine jg_jump (131070 - (v - v / 3)) hB hc (pk_sub_toInt (by omega) (by omega)) (by omega) (by omega) (by omega) rfl ?_
    refine jg_jump (131070 - v) hA hc (sb_negT (by omega)) (by omega) (by omega) (by omega) rfl ?_
    refine jg_jump (y := jg_it (131070 - v) c) (131070 - v / 3) hB (jg_itl _ hc) (sb_negT (by omega)) (by omega) (by omega) (by omega) ?_ (br_t rfl (nm_r (nI_add i 2) ?_))
    · rw [← jg_ita]
      exact jg_cong hc (by omega)
    · exact hw _ _ _ (jg_itl _ hc) (jg_nz _ hc hc1)
  · refine jg_jump (v / 3) hB hc (nI_toInt (by omega)) (by omega) (by omega) rfl rfl ?_
    refine jg_jump v hA hc (nI_toInt (by omega)) (by omega) (by omega) rfl rfl ?_
    refine jg_jump (y := jg_it v c) (v - v / 3) hB (jg_itl _ hc) (pk_sub_toInt (by omega) (by omega)) (by omega) (by omega) (by omega) ?_ (br_t rfl (nm_r (nI_add i 2) ?_))
    · rw [← jg_ita]
      exact jg_cong hc (by omega)
    · exact hw _ _ _ (jg_itl _ hc) (jg_nz _ hc hc1)
  · have es : 1 + (nI v - nI v / 65535 * 65535) = nI (1 + v % 65535) := by
      show nI 1 + (nI v - nI v / nI 65535 * nI 65535) = _
      rw [pk_rem (by omega) (by omega) (by omega), nI_add]
    refine jg_seed es (by omega) (by omega) (br_f (by decide) ⟨by decide, ?_⟩)
    refine jg_seed es (by omega) (by omega) (br_f (by decide) (nm_r (nI_add i 2) ?_))
    exact hw _ _ _ (by omega) (by omega)
theorem jg_loop {post : Int32 → Prop} {L kc ks : Nat} {xs : Nat → Int32} {n m t : Nat} {A2 A3 A4 B2 B3 B4 : Nat → Int32} (hA : jg_im A2) (hB : jg_im B2) (hn : n ≤ 50000) (hm : m ≤ 50000) (ht : t < 2 ^ 16) (ht1 : 1 ≤ t) (hL : L ≤ 260) (hp : post 1) :
    ∀ (k i c : Nat) (A1 B1 : Nat → Int32), c < 2 ^ 16 → 1 ≤ c → i < 300 → 300 - i < k → wL_law_47 post L xs (nI n) (nI m) (nI t) kc ks k (nI i) (nI c) A1 A2 A3 A4 (nI c) B1 B2 B3 B4 := by
  intro k
  induction k with
  | zero =>
    intro i c A1 B1 _ _ _ h
    exact absurd h (by omega)
  | succ k ih =>
    intro i c A1 B1 hc hc1 hi h
    rcases Nat.lt_or_ge i L with z | z
    · exact jg_turn hA hB hc hc1 hL z (fun d a b hd hd1 => ih (i + 2) d a b hd hd1 (by omega) (by omega))
    · exact jg_end hA hB hn hm ht ht1 hc hc1 hL z (by omega) hp
theorem i_vc (xs : Nat → Int32) (L : Nat) (hL : L ≤ 260) : wpL_law (fun r => r = 1) L xs := by
  unfold wpL_law
  refine ⟨4, 2328, by omega, by omega, jg_init (fun a ha => ⟨by omega, by omega, 4, 2328, by omega, by omega, jg_init (fun b hb => ?_)⟩)⟩
  refine jg_pick (k := 0) 50001 hL rfl (by omega) (by omega) (by omega) (fun n hn => ?_)
  refine jg_pick (k := 1) 50001 hL rfl (by omega) (by omega) (by omega) (fun m hm => ?_)
  refine jg_pick (k := 2) 65535 hL rfl (by omega) (by omega) (by omega) (fun t ht => nm_r (nI_add 1 t) ⟨400, ?_⟩)
  exact jg_loop (post := fun r => r = 1) (n := n) (m := m) (t := 1 + t) ha hb (by omega) (by omega) (by omega) (by omega) hL rfl 400 3 1 _ _ (by omega) (by omega) (by omega) (by omega)
end
