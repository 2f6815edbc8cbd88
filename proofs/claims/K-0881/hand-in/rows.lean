section
/-! rows of kit/rows/PURE-ROWS.to-paste, as they stand there -/
theorem pk_us {f : Nat → Int32} {k : Nat} {x : Int32} : upd f k x k = x := if_pos rfl
theorem pk_un {f : Nat → Int32} {k j : Nat} {x : Int32} (h : j ≠ k) : upd f k x j = f j := if_neg h
theorem pk_sub {a b : Nat} (h : b ≤ a) : nI a - nI b = nI (a - b) := by
  obtain ⟨c, rfl⟩ : ∃ c, a = c + b := ⟨a - b, by omega⟩
  rw [← nI_add, Int32.add_sub_cancel, Nat.add_sub_cancel]
theorem pk_m1 (n : Nat) : nI (n + 1) + (-1) = nI n := by
  rw [← nI_1, Int32.add_assoc, show (1 : Int32) + (-1) = 0 from rfl, Int32.add_zero]
theorem pk_mul (a b : Nat) : nI a * nI b = nI (a * b) := (Int32.ofNat_mul a b).symm
theorem pk_div {a d : Nat} (ha : a < 2 ^ 31) (h0 : 0 < d) (hd : d < 2 ^ 31) : nI a / nI d = nI (a / d) := by
  apply Int32.toInt_inj.mp
  rw [lg_idiv_nonneg (by rw [nI_toInt ha]; omega) (by rw [nI_toInt hd]; omega), nI_toInt ha, nI_toInt hd, nI_toInt (Nat.lt_of_le_of_lt (Nat.div_le_self a d) ha)]
  first | rfl | exact (Int.natCast_ediv _ _).symm
theorem pk_rem {a d : Nat} (ha : a < 2 ^ 31) (h0 : 0 < d) (hd : d < 2 ^ 31) : nI a - nI a / nI d * nI d = nI (a % d) := by
  rw [pk_div ha h0 hd, pk_mul, pk_sub (Nat.div_mul_le_self a d)]
  exact congrArg nI (by have := Nat.div_add_mod' a d; omega)
theorem pk_sub_toInt {a b : Nat} (ha : a < 2 ^ 30) (hb : b < 2 ^ 30) : (nI a - nI b).toInt = (a : Int) - b := by
  rw [Int32.toInt_sub, nI_toInt (by omega), nI_toInt (by omega)]
  exact Int.bmod_eq_of_le (by omega) (by omega)
theorem pk_le {x y : Int32} {A B : Prop} (a b : Nat) (f : a ≤ b → A) (g : b < a → B) (hx : x = nI a := by rfl) (hy : y = nI b := by rfl) (ha : a < 2 ^ 31 := by omega) (hb : b < 2 ^ 31 := by omega) : (x ≤ y → A) ∧ (¬ x ≤ y → B) := by
  subst hx hy
  rw [nI_leI ha hb]
  exact ⟨f, fun z => g (by omega)⟩
theorem pk_lt {x y : Int32} {A B : Prop} (a b : Nat) (f : a < b → A) (g : b ≤ a → B) (hx : x = nI a := by rfl) (hy : y = nI b := by rfl) (ha : a < 2 ^ 31 := by omega) (hb : b < 2 ^ 31 := by omega) : (x < y → A) ∧ (¬ x < y → B) := by
  subst hx hy
  rw [nI_ltI ha hb]
  exact ⟨f, fun z => g (by omega)⟩
theorem pk_eq {x y : Int32} {A B : Prop} (a b : Nat) (f : a = b → A) (g : a ≠ b → B) (hx : x = nI a := by rfl) (hy : y = nI b := by rfl) (ha : a < 2 ^ 31 := by omega) (hb : b < 2 ^ 31 := by omega) : (x = y → A) ∧ (¬ x = y → B) := by
  subst hx hy
  rw [nI_eq ha hb]
  exact ⟨f, g⟩
theorem pk_tn {n : Nat} (h : n < 2 ^ 32) : (nI n).toBitVec.toNat = n := Nat.mod_eq_of_lt h
theorem pk_and (x : Int32) {m : Int32} (k : Nat) (hm : m.toBitVec.toNat = 2 ^ k - 1) : x &&& m = nI (x.toBitVec.toNat % 2 ^ k) := by
  apply Int32.toBitVec_inj.mp
  apply BitVec.eq_of_toNat_eq
  rw [Int32.toBitVec_and, BitVec.toNat_and, hm, Nat.and_two_pow_sub_one_eq_mod]
  show _ = (BitVec.ofNat 32 _).toNat
  rw [BitVec.toNat_ofNat]
  exact (Nat.mod_eq_of_lt (Nat.lt_of_le_of_lt (Nat.mod_le _ _) x.toBitVec.isLt)).symm
theorem pk_andN {n : Nat} (h : n < 2 ^ 32) {m : Int32} (k : Nat) (hm : m.toBitVec.toNat = 2 ^ k - 1) : nI n &&& m = nI (n % 2 ^ k) := by
  rw [pk_and _ k hm, pk_tn h]
theorem pk_shr (a s : Int32) (k : Nat) (hs : (s.toBitVec.smod 32).toNat = k) : (a >>> s).toInt = a.toInt >>> k := by
  show (a.toBitVec.sshiftRight (s.toBitVec.smod 32).toNat).toInt = _
  rw [hs, BitVec.toInt_sshiftRight]
  rfl
theorem pk_shrN {n : Nat} (h : n < 2 ^ 31) (s : Int32) (k : Nat) (hs : (s.toBitVec.smod 32).toNat = k) : nI n >>> s = nI (n / 2 ^ k) := by
  apply Int32.toInt_inj.mp
  have h2 : n / 2 ^ k ≤ n := Nat.div_le_self _ _
  rw [pk_shr _ _ k hs, nI_toInt h, nI_toInt (by omega), Int.shiftRight_eq_div_pow]
  rfl
theorem pk_ns (z : Int32) : narrow .short (.int z.toInt16.toInt32) = .int z.toInt16.toInt32 := congrArg Value.int (by simp)
theorem pk_fs (r : Int32) : fits .short (.int r.toInt16.toInt32) = true := by
  have ⟨a, b⟩ := lg_i2s_range r
  have h1 : (-32768 : Int32).toInt = -32768 := by decide
  have h2 : (32767 : Int32).toInt = 32767 := by decide
  simp only [fits, Bool.and_eq_true, decide_eq_true_eq, Int32.le_iff_toInt_le, h1, h2]
  omega
theorem pk_vb (z : Int32) : vp_nar .byte z.toInt8.toInt32 = z.toInt8.toInt32 := by rw [vp_nar_byte]; simp
end
section
/-! the pure law: what the two categories compute over the list of the 13 counts -/
def pr_ls (c : Nat → Nat) : Nat → Nat → List Nat
  | _, 0 => []
  | i, d + 1 => c i :: pr_ls c (i + 1) d
def pr_sum : List Nat → Nat
  | [] => 0
  | x :: t => x + pr_sum t
def pr_cub : List Nat → Nat
  | [] => 0
  | x :: t => x * x * x + pr_cub t
def pr_mk : List Nat → Nat
  | [] => 0
  | x :: t => (if x = 0 then 0 else 1) + 2 * pr_mk t
/-- X's answer without the flush: 7 6 3 2 1, 4 a straight, 0 nothing; lo and hi are one more than Java's -/
def pr_xe (w : Bool) (q t p lo hi : Nat) : Nat :=
  if 0 < q then 7 else if 0 < t then (if 0 < p then 6 else 3) else if 2 ≤ p then 2 else if p = 1 then 1 else if hi = lo + 4 then 4 else if w = true then 4 else 0
def pr_xs (w : Bool) : List Nat → Nat → Nat → Nat → Nat → Nat → Nat → Nat
  | [], q, t, p, lo, hi, _ => pr_xe w q t p lo hi
  | x :: l, q, t, p, lo, hi, i => pr_xs w l (if 4 ≤ x then q + 1 else q) (if x = 3 then t + 1 else t) (if x = 2 then p + 1 else p) (if x = 0 then lo else if lo = 0 then i + 1 else lo) (if x = 0 then hi else i + 1) (i + 1)
def pr_wl (l : List Nat) : Bool := l.getD 12 0 == 1 && (l.getD 0 0 == 1 && (l.getD 1 0 == 1 && (l.getD 2 0 == 1 && l.getD 3 0 == 1)))
def pr_xK (l : List Nat) : Nat := pr_xs (pr_wl l) l 0 0 0 0 0 0
/-- Y's -/
def pr_ye (s : Nat) (st : Int32) : Nat :=
  if s = 11 then 1 else if s = 17 then 2 else if s = 29 then 3 else if s = 35 then 6 else if s = 65 then 7 else if s = 125 then 7 else if st = 0 then 0 else 4
def pr_ys (m : Nat) : Nat → Nat → Int32 → Int32
  | 0, _, st => st
  | d + 1, i, st => pr_ys m d (i + 1) (if i < 9 then (if m / 2 ^ i % 32 = 31 then 1 else st) else st)
def pr_y0 (m : Nat) : Int32 := if m &&& 4111 = 4111 then 1 else 0
def pr_yK (l : List Nat) : Nat := pr_ye (pr_cub l) (pr_ys (pr_mk l) 13 0 (pr_y0 (pr_mk l)))
/-- the answer with the flush -/
def pr_zz (x f : Int32) : Int32 := if x = 0 then (if f = 0 then 0 else 5) else (if f = 0 then 4 else 8)
def pr_cc (k : Nat) (f : Int32) : Int32 := if k = 0 then pr_zz 0 f else if k = 4 then pr_zz 1 f else nI k
/-- all lists of k naturals with sum r -/
def pr_all : Nat → Nat → (List Nat → Bool) → Bool
  | 0, r, P => if r = 0 then P [] else true
  | k + 1, r, P => (List.range (r + 1)).all fun x => pr_all k (r - x) (fun l => P (x :: l))
theorem pr_all_s : ∀ (k r : Nat) (P : List Nat → Bool), pr_all k r P = true → ∀ l : List Nat, l.length = k → pr_sum l = r → P l = true := by
  intro k
  induction k with
  | zero =>
    intro r P h l hl hs
    cases l with
    | nil =>
      have e : r = 0 := hs.symm
      rw [pr_all, if_pos e] at h
      exact h
    | cons x t => exact absurd hl (by simp)
  | succ k ih =>
    intro r P h l hl hs
    cases l with
    | nil => exact absurd hl (by simp)
    | cons x t =>
      rw [pr_sum] at hs
      rw [pr_all] at h
      have h1 := List.all_eq_true.mp h x (List.mem_range.mpr (by omega))
      exact ih (r - x) _ h1 t (by simpa using hl) (by omega)
theorem pr_ls_len (c : Nat → Nat) : ∀ d i, (pr_ls c i d).length = d := by
  intro d
  induction d with
  | zero => intro i; rfl
  | succ d ih => intro i; rw [pr_ls, List.length_cons, ih]
theorem pr_tab : pr_all 13 5 (fun l => Nat.beq (pr_xK l) (pr_yK l)) = true := by decide +kernel
theorem pr_law (c : Nat → Nat) (h : pr_sum (pr_ls c 0 13) = 5) : pr_xK (pr_ls c 0 13) = pr_yK (pr_ls c 0 13) :=
  Nat.eq_of_beq_eq_true (pr_all_s 13 5 _ pr_tab _ (pr_ls_len c 13 0) h)
/-! one more card -/
def pr_bump (c : Nat → Nat) (r : Nat) : Nat → Nat := fun j => if j = r then c j + 1 else c j
theorem pr_mk_tb (c : Nat → Nat) : ∀ d i j, (pr_mk (pr_ls c i d)).testBit j = decide (j < d ∧ c (i + j) ≠ 0) := by
  intro d
  induction d with
  | zero => intro i j; rw [pr_ls, pr_mk, Nat.zero_testBit]; simp
  | succ d ih =>
    intro i j
    rw [pr_ls, pr_mk]
    cases j with
    | zero =>
      rw [Nat.testBit_zero]
      by_cases z : c i = 0
      · rw [if_pos z]
        have e : ¬ (0 + 2 * pr_mk (pr_ls c (i + 1) d)) % 2 = 1 := by omega
        simp [z]
      · rw [if_neg z]
        have e : (1 + 2 * pr_mk (pr_ls c (i + 1) d)) % 2 = 1 := by omega
        rw [decide_eq_true e]
        simp [z]
    | succ j =>
      rw [Nat.testBit_succ]
      have e : ((if c i = 0 then 0 else 1) + 2 * pr_mk (pr_ls c (i + 1) d)) / 2 = pr_mk (pr_ls c (i + 1) d) := by split <;> omega
      rw [e, ih, show i + 1 + j = i + (j + 1) by omega]
      simp
theorem pr_mk_lt (c : Nat → Nat) : ∀ d i, pr_mk (pr_ls c i d) < 2 ^ d := by
  intro d
  induction d with
  | zero => intro i; rw [pr_ls, pr_mk]; decide
  | succ d ih =>
    intro i
    rw [pr_ls, pr_mk, Nat.pow_succ]
    have h := ih (i + 1)
    split <;> omega
theorem pr_mk_bump (c : Nat → Nat) {r : Nat} (hr : r < 13) : pr_mk (pr_ls (pr_bump c r) 0 13) = pr_mk (pr_ls c 0 13) ||| 2 ^ r := by
  apply Nat.eq_of_testBit_eq
  intro j
  rw [Nat.testBit_or, pr_mk_tb, pr_mk_tb, Nat.testBit_two_pow, Nat.zero_add]
  unfold pr_bump
  by_cases e : j = r
  · subst e; simp [hr]
  · have e2 : ¬ r = j := fun h => e h.symm
    simp [e, e2]
theorem pr_sum_bump (c : Nat → Nat) (r : Nat) : ∀ d i, pr_sum (pr_ls (pr_bump c r) i d) = pr_sum (pr_ls c i d) + (if i ≤ r ∧ r < i + d then 1 else 0) := by
  intro d
  induction d with
  | zero =>
    intro i
    rw [pr_ls, pr_ls, pr_sum, if_neg (by omega)]
  | succ d ih =>
    intro i
    rw [pr_ls, pr_ls, pr_sum, pr_sum, ih]
    unfold pr_bump
    by_cases e : i = r
    · rw [if_pos e, if_neg (by omega), if_pos (by omega)]; omega
    · rw [if_neg e]
      by_cases z : i ≤ r ∧ r < i + (d + 1)
      · rw [if_pos z, if_pos (by omega)]; omega
      · rw [if_neg z, if_neg (by omega)]; omega
theorem pr_bump_le {c : Nat → Nat} {n N r : Nat} (h : ∀ j, j < N → c j ≤ n) : ∀ j, j < N → pr_bump c r j ≤ n + 1 := by
  intro j hj
  have := h j hj
  unfold pr_bump
  split <;> omega
theorem pr_bump_a {a : Nat → Int32} {c : Nat → Nat} {N r : Nat} (h : ∀ j, j < N → a j = nI (c j)) : ∀ j, j < N → upd a r (nI (c r + 1)) j = nI (pr_bump c r j) := by
  intro j hj
  unfold upd pr_bump
  by_cases e : j = r
  · rw [if_pos e, if_pos e, e]
  · rw [if_neg e, if_neg e]; exact h j hj
/-! the flush -/
def pr_fl (s : Nat → Nat) : Int32 := if s 0 = 5 ∨ s 1 = 5 ∨ s 2 = 5 ∨ s 3 = 5 then 1 else 0
def pr_fx (s : Nat → Nat) : Nat → Nat → Int32 → Int32
  | 0, _, x => x
  | d + 1, i, x => pr_fx s d (i + 1) (if s i = 5 then 1 else x)
theorem pr_fx_fl (s : Nat → Nat) : pr_fx s 4 0 0 = pr_fl s := by
  by_cases h0 : s 0 = 5 <;> by_cases h1 : s 1 = 5 <;> by_cases h2 : s 2 = 5 <;> by_cases h3 : s 3 = 5 <;> simp [pr_fx, pr_fl, h0, h1, h2, h3]
theorem pr_fl_z {s : Nat → Nat} (h : ∀ j, j < 4 → s j ≤ 4) : pr_fl s = 0 := by
  have h0 := h 0 (by omega)
  have h1 := h 1 (by omega)
  have h2 := h 2 (by omega)
  have h3 := h 3 (by omega)
  exact if_neg (by omega)
theorem pr_fl_bump {s : Nat → Nat} {q : Nat} (hq : q < 4) (h : ∀ j, j < 4 → s j ≤ 4) : pr_fl (pr_bump s q) = if s q + 1 = 5 then 1 else pr_fl s := by
  rw [pr_fl_z h]
  have h0 := h 0 (by omega)
  have h1 := h 1 (by omega)
  have h2 := h 2 (by omega)
  have h3 := h 3 (by omega)
  unfold pr_fl
  have e : (pr_bump s q 0 = 5 ∨ pr_bump s q 1 = 5 ∨ pr_bump s q 2 = 5 ∨ pr_bump s q 3 = 5) ↔ s q + 1 = 5 := by
    unfold pr_bump
    have hc : q = 0 ∨ q = 1 ∨ q = 2 ∨ q = 3 := by omega
    rcases hc with rfl | rfl | rfl | rfl <;> simp <;> omega
  by_cases z : s q + 1 = 5
  · rw [if_pos z, if_pos (e.mpr z)]
  · rw [if_neg z, if_neg (fun y => z (e.mp y))]
/-! ints -/
theorem pr_sl : ∀ n, n < 32 → ((nI n &&& 31).toBitVec.smod 32).toNat = n := by decide +kernel
theorem pr_sh : ∀ n, n < 13 → ((1 : Int32) <<< (nI n &&& 31)) = nI (2 ^ n) := by decide +kernel
theorem pr_and (a b : Nat) : nI a &&& nI b = nI (a &&& b) := by
  apply Int32.toBitVec_inj.1
  show BitVec.ofNat 32 a &&& BitVec.ofNat 32 b = BitVec.ofNat 32 (a &&& b)
  apply BitVec.eq_of_getLsbD_eq
  intro i hi
  simp [hi]
theorem pr_or (a b : Nat) : nI a ||| nI b = nI (a ||| b) := by
  apply Int32.toBitVec_inj.1
  show BitVec.ofNat 32 a ||| BitVec.ofNat 32 b = BitVec.ofNat 32 (a ||| b)
  apply BitVec.eq_of_getLsbD_eq
  intro i hi
  simp [hi]
theorem pr_i16 {m : Nat} (h : m < 32768) : (nI m).toInt16.toInt32 = nI m :=
  lg_i2s_small (by rw [nI_toInt (by omega)]; omega) (by rw [nI_toInt (by omega)]; omega)
theorem pr_i8 : ∀ k, k < 6 → (nI k + 1).toInt8.toInt32 = nI (k + 1) := by decide +kernel
theorem pr_m1 : nI 0 + (-1) = -1 := by decide +kernel
theorem pr_b0 : vp_nar .byte 0 = 0 := by rw [vp_nar_byte]; decide
end
section
/-! X's walks, each over a general post -/
theorem pr_c4 : (4 : Int32) ≤ nI 4 := by decide +kernel
theorem pr_c13 : (13 : Int32) ≤ nI 13 := by decide +kernel
theorem pr_n4 {i : Nat} (h : i < 4) : ¬ (4 : Int32) ≤ nI i := nI_ge (b := 4) h (by decide)
theorem pr_n13 {i : Nat} (h : i < 13) : ¬ (13 : Int32) ≤ nI i := nI_ge (b := 13) h (by decide)
theorem pr_x217 {post : Int32 → Prop} {x6 fc : Int32} {a b : Nat → Int32} {s : Nat → Nat} (hb : ∀ j, j < 4 → b j = nI (s j)) (hs : ∀ j, j < 4 → s j ≤ 5) :
    ∀ d i x7, i + d = 4 → post (pr_zz x6 (pr_fx s d i x7)) → wX_category_217 post x6 fc a b (d + 1) x7 (nI i) := by
  intro d
  induction d with
  | zero =>
    intro i x7 hi hp
    obtain rfl : i = 4 := by omega
    rw [pr_fx] at hp
    unfold pr_zz at hp
    by_cases h6 : x6 = 0
    · rw [if_pos h6] at hp
      by_cases h7 : x7 = 0
      · rw [if_pos h7] at hp
        exact br_t pr_c4 (br_t h6 (br_t h7 (br_t h6 hp)))
      · rw [if_neg h7] at hp
        exact br_t pr_c4 (br_t h6 (br_f h7 hp))
    · rw [if_neg h6] at hp
      by_cases h7 : x7 = 0
      · rw [if_pos h7] at hp
        exact br_t pr_c4 (br_f h6 (br_t h7 (br_t h7 (br_f h6 hp))))
      · rw [if_neg h7] at hp
        exact br_t pr_c4 (br_f h6 (br_f h7 hp))
  | succ d ih =>
    intro i x7 hi hp
    have h5 := hs i (by omega)
    have eb : b (nI i).toNatClampNeg = nI (s i) := by rw [nI_clamp (by omega), hb i (by omega)]
    rw [pr_fx] at hp
    refine br_f (pr_n4 (by omega)) ⟨vp_in_nI (by omega) (by decide), ?_⟩
    refine pk_eq (s i) 5 (fun e => nm_r (nI_1 i) (ih (i + 1) 1 (by omega) ?_)) (fun e => nm_r (nI_1 i) (ih (i + 1) x7 (by omega) ?_)) eb
    · rw [if_pos e] at hp; exact hp
    · rw [if_neg e] at hp; exact hp
theorem pr_d4 {lo hi : Nat} (h1 : lo ≤ 13) (h2 : hi ≤ 13) : (nI hi + (-1)) - (nI lo + (-1)) = 4 ↔ hi = lo + 4 := by
  have e1 : (nI hi + (-1)) - (nI lo + (-1)) = nI hi - nI lo := by grind
  rw [e1, ← Int32.toInt_inj, pk_sub_toInt (by omega) (by omega), show (4 : Int32).toInt = 4 from by decide]
  omega
theorem pr_wc (c : Nat → Nat) : pr_wl (pr_ls c 0 13) = (c 12 == 1 && (c 0 == 1 && (c 1 == 1 && (c 2 == 1 && c 3 == 1)))) := rfl
theorem pr_x119 {post : Int32 → Prop} {fc : Int32} {a b : Nat → Int32} {c s : Nat → Nat} {w : Bool} {t p lo hi : Nat} (hw : w = pr_wl (pr_ls c 0 13))
    (ha : ∀ j, j < 13 → a j = nI (c j)) (hb : ∀ j, j < 4 → b j = nI (s j)) (hc : ∀ j, j < 13 → c j ≤ 5) (hs : ∀ j, j < 4 → s j ≤ 5)
    (ht : t ≤ 13) (hp' : p ≤ 13) (hlo : lo ≤ 13) (hhi : hi ≤ 13) (h0 : t = 0 ∨ p = 0)
    (hp : post (pr_cc (pr_xe w 0 t p lo hi) (pr_fl s))) : wX_category_119 post (nI t) (nI p) (nI lo + (-1)) (nI hi + (-1)) fc a b := by
  have K1 : post (pr_zz 1 (pr_fl s)) → ∃ n : Nat, wX_category_217 post 1 fc a b n 0 0 := fun h =>
    ⟨5, pr_x217 hb hs 4 0 0 rfl (by rw [pr_fx_fl]; exact h)⟩
  have K0 : post (pr_zz 0 (pr_fl s)) → ∃ n : Nat, wX_category_217 post 0 fc a b n 0 0 := fun h =>
    ⟨5, pr_x217 hb hs 4 0 0 rfl (by rw [pr_fx_fl]; exact h)⟩
  unfold wX_category_119
  refine pk_le t 0 (fun z => ?_) (fun z => ?_)
  · obtain rfl : t = 0 := by omega
    refine pk_lt p 2 (fun p2 => pk_eq p 1 (fun p1 => ?_) (fun p1 => ?_)) (fun p2 => ?_)
    · subst p1; exact hp
    · obtain rfl : p = 0 := by omega
      have e : pr_xe w 0 0 0 lo hi = if hi = lo + 4 then 4 else if w = true then 4 else 0 := rfl
      rw [e] at hp
      by_cases h4 : hi = lo + 4
      · rw [if_pos h4] at hp
        exact br_t ((pr_d4 hlo hhi).mpr h4) (K1 hp)
      · rw [if_neg h4] at hp
        refine br_f (fun y => h4 ((pr_d4 hlo hhi).mp y)) ?_
        have k12 := hc 12 (by omega)
        have k0 := hc 0 (by omega)
        have k1 := hc 1 (by omega)
        have k2 := hc 2 (by omega)
        have k3 := hc 3 (by omega)
        have a12 := ha 12 (by omega)
        have a0 := ha 0 (by omega)
        have a1 := ha 1 (by omega)
        have a2 := ha 2 (by omega)
        have a3 := ha 3 (by omega)
        rw [pr_wc] at hw
        by_cases hwt : w = true
        · rw [if_pos hwt] at hp
          rw [hwt] at hw
          have hh : c 12 = 1 ∧ c 0 = 1 ∧ c 1 = 1 ∧ c 2 = 1 ∧ c 3 = 1 := by simpa using hw.symm
          obtain ⟨g12, g0, g1, g2, g3⟩ := hh
          rw [g12] at a12
          rw [g0] at a0
          rw [g1] at a1
          rw [g2] at a2
          rw [g3] at a3
          exact br_t a12 (br_t a0 (br_t a1 (br_t a2 (br_t a3 (K1 hp)))))
        · rw [if_neg hwt] at hp
          have kz := K0 hp
          refine pk_eq (c 12) 1 (fun g12 => pk_eq (c 0) 1 (fun g0 => pk_eq (c 1) 1 (fun g1 => pk_eq (c 2) 1 (fun g2 => pk_eq (c 3) 1 (fun g3 => ?_) (fun _ => kz) a3) (fun _ => kz) a2) (fun _ => kz) a1) (fun _ => kz) a0) (fun _ => kz) a12
          exact absurd (by rw [hw, g12, g0, g1, g2, g3]; rfl) hwt
    · have e : pr_xe w 0 0 p lo hi = 2 := by
        unfold pr_xe
        rw [if_neg (by omega), if_neg (by omega), if_pos p2]
      rw [e] at hp
      exact hp
  · have e : pr_xe w 0 t p lo hi = 3 := by
      unfold pr_xe
      rw [if_neg (by omega), if_pos z, if_neg (by omega)]
    rw [e] at hp
    exact hp
theorem pr_x77 {post : Int32 → Prop} {J : Int32 → Int32 → Int32 → Int32 → Int32 → Int32 → Prop} {x1 x2 x3 fc : Int32} {a b : Nat → Int32} {lo hi i x : Nat}
    (hx : x ≤ 5) (hlo : lo ≤ 13)
    (K : J x1 x2 x3 (nI (if x = 0 then lo else if lo = 0 then i + 1 else lo) + (-1)) (nI (if x = 0 then hi else i + 1) + (-1)) (nI (i + 1))) :
    wX_category_77 post J x1 x2 x3 (nI lo + (-1)) (nI hi + (-1)) (nI i) (nI x) fc a b := by
  unfold wX_category_77
  refine pk_le x 0 (fun h => ?_) (fun h => ?_)
  · have e : x = 0 := by omega
    rw [if_pos e, if_pos e] at K
    exact nm_r (nI_1 i) K
  · have e : ¬ x = 0 := by omega
    rw [if_neg e, if_neg e] at K
    by_cases z : lo = 0
    · rw [if_pos z, pk_m1] at K
      refine br_f ?_ (nm_r (nI_1 i) K)
      rw [z]
      decide +kernel
    · rw [if_neg z, pk_m1 i] at K
      refine br_t ?_ (nm_r (nI_1 i) K)
      obtain ⟨l, rfl⟩ : ∃ l, lo = l + 1 := ⟨lo - 1, by omega⟩
      rw [pk_m1]
      exact nI_pos' (by omega)
theorem pr_x25 {post : Int32 → Prop} {fc : Int32} {a b : Nat → Int32} {c s : Nat → Nat} {w : Bool} (hw : w = pr_wl (pr_ls c 0 13))
    (ha : ∀ j, j < 13 → a j = nI (c j)) (hb : ∀ j, j < 4 → b j = nI (s j)) (hc : ∀ j, j < 13 → c j ≤ 5) (hs : ∀ j, j < 4 → s j ≤ 5) :
    ∀ d i q t p lo hi, i + d = 13 → q ≤ i → t ≤ i → p ≤ i → lo ≤ i → hi ≤ i → post (pr_cc (pr_xs w (pr_ls c i d) q t p lo hi i) (pr_fl s)) →
      wX_category_25 post fc a b (d + 1) (nI q) (nI t) (nI p) (nI lo + (-1)) (nI hi + (-1)) (nI i) := by
  intro d
  induction d with
  | zero =>
    intro i q t p lo hi hi13 hq ht hp' hlo hhi hp
    obtain rfl : i = 13 := by omega
    rw [pr_ls, pr_xs] at hp
    refine br_t pr_c13 (pk_le q 0 (fun q0 => ?_) (fun q0 => ?_))
    · obtain rfl : q = 0 := by omega
      refine pk_le t 0 (fun t0 => ?_) (fun t0 => pk_le p 0 (fun p0 => ?_) (fun p0 => ?_))
      · exact pr_x119 hw ha hb hc hs ht hp' hlo hhi (Or.inl (by omega)) hp
      · exact pr_x119 hw ha hb hc hs ht hp' hlo hhi (Or.inr (by omega)) hp
      · have e : pr_xe w 0 t p lo hi = 6 := by
          unfold pr_xe
          rw [if_neg (by omega), if_pos t0, if_pos p0]
        rw [e] at hp
        exact hp
    · have e : pr_xe w q t p lo hi = 7 := by
        unfold pr_xe
        rw [if_pos q0]
      rw [e] at hp
      exact hp
  | succ d ih =>
    intro i q t p lo hi hi13 hq ht hp' hlo hhi hp
    rw [pr_ls, pr_xs] at hp
    have h5 := hc i (by omega)
    have hlo2 : (if c i = 0 then lo else if lo = 0 then i + 1 else lo) ≤ i + 1 := by
      split
      · omega
      · split <;> omega
    have hhi2 : (if c i = 0 then hi else i + 1) ≤ i + 1 := by split <;> omega
    refine br_f (pr_n13 (by omega)) ⟨vp_in_nI (by omega) (by decide), ?_⟩
    refine nm_r (e' := nI (c i)) (by rw [nI_clamp (by omega), ha i (by omega)]) ?_
    refine pk_lt (c i) 4 (fun h4 => pk_eq (c i) 3 (fun h3 => nm_r (nI_1 t) (pr_x77 h5 (by omega) ?_)) (fun h3 => pk_eq (c i) 2 (fun h2 => nm_r (nI_1 p) (pr_x77 h5 (by omega) ?_)) (fun h2 => pr_x77 h5 (by omega) ?_))) (fun h4 => nm_r (nI_1 q) (pr_x77 h5 (by omega) ?_))
    · rw [if_neg (show ¬ 4 ≤ c i by omega), if_pos h3, if_neg (show ¬ c i = 2 by omega)] at hp
      exact ih (i + 1) q (t + 1) p _ _ (by omega) (by omega) (by omega) (by omega) hlo2 hhi2 hp
    · rw [if_neg (show ¬ 4 ≤ c i by omega), if_neg h3, if_pos h2] at hp
      exact ih (i + 1) q t (p + 1) _ _ (by omega) (by omega) (by omega) (by omega) hlo2 hhi2 hp
    · rw [if_neg (show ¬ 4 ≤ c i by omega), if_neg h3, if_neg h2] at hp
      exact ih (i + 1) q t p _ _ (by omega) (by omega) (by omega) (by omega) hlo2 hhi2 hp
    · rw [if_pos h4, if_neg (show ¬ c i = 3 by omega), if_neg (show ¬ c i = 2 by omega)] at hp
      exact ih (i + 1) (q + 1) t p _ _ (by omega) (by omega) (by omega) (by omega) hlo2 hhi2 hp
theorem pr_xcat {post : Int32 → Prop} {n : Nat} {a b : Nat → Int32} {c s : Nat → Nat} (hn : n = 5)
    (ha : ∀ j, j < 13 → a j = nI (c j)) (hb : ∀ j, j < 4 → b j = nI (s j)) (hc : ∀ j, j < 13 → c j ≤ 5) (hs : ∀ j, j < 4 → s j ≤ 5)
    (hp : post (pr_cc (pr_xK (pr_ls c 0 13)) (pr_fl s))) : wpX_category post (nI n, a, b) := by
  have h := pr_x25 (post := post) (fc := nI n) (w := pr_wl (pr_ls c 0 13)) rfl ha hb hc hs 13 0 0 0 0 0 0 (by omega) (by omega) (by omega) (by omega) (by omega) (by omega) hp
  rw [pr_m1] at h
  refine br_t ?_ ⟨14, h⟩
  rw [hn]
  decide +kernel
/-! clear -/
def pr_zr (a : Nat → Int32) (i : Nat) : Nat → Int32 := fun j => if j < i then 0 else a j
theorem pr_zr0 (a : Nat → Int32) : pr_zr a 0 = a := funext fun j => if_neg (by omega)
theorem pr_zrS (a : Nat → Int32) (i : Nat) : upd (pr_zr a i) i 0 = pr_zr a (i + 1) := by
  funext j
  unfold upd pr_zr
  by_cases e : j = i
  · rw [if_pos e, if_pos (by omega)]
  · rw [if_neg e]
    by_cases z : j < i
    · rw [if_pos z, if_pos (by omega)]
    · rw [if_neg z, if_neg (by omega)]
theorem pr_zrT (a : Nat → Int32) {i : Nat} (h : i < 2 ^ 31) : upd (pr_zr a i) (nI i).toNatClampNeg 0 = pr_zr a (i + 1) := by rw [nI_clamp h, pr_zrS]
theorem pr_xc28 {post : Int32 → SX → Prop} {x1 fc : Int32} {a b : Nat → Int32} (hp : post x1 (0, a, pr_zr b 4)) :
    ∀ d i, i + d = 4 → wX_clear_28 post x1 fc (d + 1) (nI i) a (pr_zr b i) := by
  intro d
  induction d with
  | zero =>
    intro i hi
    obtain rfl : i = 4 := by omega
    exact br_t pr_c4 hp
  | succ d ih =>
    intro i hi
    exact br_f (pr_n4 (by omega)) ⟨vp_in_nI (by omega) (by decide), nm_r (pr_zrT b (by omega)) (nm_r (nI_1 i) (ih (i + 1) (by omega)))⟩
theorem pr_xc7 {post : Int32 → SX → Prop} {x1 fc : Int32} {a b : Nat → Int32} (hp : post x1 (0, pr_zr a 13, pr_zr b 4)) :
    ∀ d i, i + d = 13 → wX_clear_7 post x1 fc (d + 1) (nI i) (pr_zr a i) b := by
  intro d
  induction d with
  | zero =>
    intro i hi
    obtain rfl : i = 13 := by omega
    have h := pr_xc28 (fc := fc) hp 4 0 (by omega)
    rw [pr_zr0] at h
    exact br_t pr_c13 ⟨5, h⟩
  | succ d ih =>
    intro i hi
    exact br_f (pr_n13 (by omega)) ⟨vp_in_nI (by omega) (by decide), nm_r (pr_zrT a (by omega)) (nm_r (nI_1 i) (ih (i + 1) (by omega)))⟩
theorem pr_xclear {post : Int32 → SX → Prop} {f : Int32} {a b : Nat → Int32} (hp : post f (0, pr_zr a 13, pr_zr b 4)) : wpX_clear post (f, a, b) := by
  have h := pr_xc7 (fc := f) hp 13 0 (by omega)
  rw [pr_zr0] at h
  exact ⟨14, h⟩
/-! add -/
theorem pr_rem {j : Nat} (h : j ≤ 51) : nI j - nI j / 13 * 13 = nI (j % 13) := pk_rem (d := 13) (by omega) (by omega) (by omega)
theorem pr_div {j : Nat} (h : j ≤ 51) : nI j / 13 = nI (j / 13) := pk_div (d := 13) (by omega) (by omega) (by omega)
theorem pr_l5 {n : Nat} (h : n < 5) : nI n < 5 := nI_lt (b := 5) h (by decide)
theorem pr_l51 {j : Nat} (h : j ≤ 51) : nI j ≤ 51 := nI_le (b := 51) h (by decide)
theorem pr_xadd {post : Int32 → SX → Prop} {n j : Nat} {a b : Nat → Int32} {c s : Nat → Nat} (hn : n < 5) (hj : j ≤ 51)
    (ha : ∀ j, j < 13 → a j = nI (c j)) (hb : ∀ j, j < 4 → b j = nI (s j))
    (K : post (nI (n + 1)) (nI (n + 1), upd a (j % 13) (nI (c (j % 13) + 1)), upd b (j / 13) (nI (s (j / 13) + 1)))) : wpX_add post (nI n, a, b) (nI j) := by
  unfold wpX_add
  refine br_t (pr_l5 hn) (br_f (nI_pos (by omega)) (br_t (pr_l51 hj) ?_))
  rw [pr_rem hj, pr_div hj]
  have hr : j % 13 < 13 := Nat.mod_lt _ (by omega)
  have hq : j / 13 < 4 := by omega
  have i1 : vp_in (nI (j % 13)) 13 := vp_in_nI hr (by decide)
  have i2 : vp_in (nI (j / 13)) 4 := vp_in_nI hq (by decide)
  have n13 : ¬ (13 : Int32) = 0 := by decide
  refine ⟨n13, n13, i1, i1, nm_r (e' := upd a (j % 13) (nI (c (j % 13) + 1))) (by rw [nI_clamp (by omega), ha _ hr, nI_1]) ?_⟩
  refine ⟨n13, n13, i2, i2, nm_r (e' := upd b (j / 13) (nI (s (j / 13) + 1))) (by rw [nI_clamp (by omega), hb _ hq, nI_1]) ?_⟩
  exact nm_r (nI_1 n) K
end
section
/-! Y's walks -/
theorem pr_y181 {post : Int32 → Prop} {m fc f x : Int32} {a b : Nat → Int32} (h : x = 0 ∨ f = 0) (hp : post (pr_zz x f)) : wY_category_181 post x m fc f a b := by
  unfold pr_zz at hp
  by_cases hf : f = 0
  · by_cases hx : x = 0
    · rw [if_pos hx, if_pos hf] at hp
      exact br_t hf (br_t hx hp)
    · rw [if_neg hx, if_pos hf] at hp
      exact br_t hf (br_f hx hp)
  · have hx : x = 0 := h.resolve_right hf
    rw [if_pos hx, if_neg hf] at hp
    exact br_f hf hp
theorem pr_y34 {post : Int32 → Prop} {m : Nat} {fc f : Int32} {a b : Nat → Int32} {c : Nat → Nat} (hm : m < 8192)
    (ha : ∀ j, j < 13 → a j = nI (c j)) (hc : ∀ j, j < 13 → c j ≤ 5) :
    ∀ d i S st, i + d = 13 → S ≤ 125 * i → post (pr_cc (pr_ye (S + pr_cub (pr_ls c i d)) (pr_ys m d i st)) f) →
      wY_category_34 post (nI m) fc f a b (d + 1) (nI S) st (nI i) := by
  intro d
  induction d with
  | zero =>
    intro i S st hi hS hp
    obtain rfl : i = 13 := by omega
    rw [pr_ls, pr_cub, pr_ys, Nat.add_zero] at hp
    refine br_t pr_c13 ?_
    refine pk_eq S 11 (fun e => by subst e; exact hp) (fun e1 => pk_eq S 17 (fun e => by subst e; exact hp) (fun e2 => pk_eq S 29 (fun e => by subst e; exact hp) (fun e3 => pk_eq S 35 (fun e => by subst e; exact hp) (fun e4 => pk_eq S 65 (fun e => by subst e; exact hp) (fun e5 => pk_eq S 125 (fun e => by subst e; exact hp) (fun e6 => ?_))))))
    unfold pr_ye at hp
    rw [if_neg e1, if_neg e2, if_neg e3, if_neg e4, if_neg e5, if_neg e6] at hp
    by_cases hx : st = 0
    · rw [if_pos hx] at hp
      have hp2 : post (pr_zz st f) := by rw [hx]; exact hp
      exact br_t hx (pr_y181 (Or.inl hx) hp2)
    · rw [if_neg hx] at hp
      have hz : pr_zz st f = pr_zz 1 f := by
        unfold pr_zz
        rw [if_neg hx, if_neg (by decide : ¬ (1 : Int32) = 0)]
      have hp2 : post (pr_zz st f) := by rw [hz]; exact hp
      by_cases hf : f = 0
      · exact br_f hx (br_t hf (pr_y181 (Or.inr hf) hp2))
      · unfold pr_zz at hp2
        rw [if_neg hx, if_neg hf] at hp2
        exact br_f hx (br_f hf hp2)
  | succ d ih =>
    intro i S st hi hS hp
    rw [pr_ls, pr_cub, pr_ys, ← Nat.add_assoc] at hp
    have h5 := hc i (by omega)
    have hin : vp_in (nI i) 13 := vp_in_nI (by omega) (by decide)
    have hcb : c i * c i * c i ≤ 125 := Nat.le_trans (Nat.mul_le_mul (Nat.mul_le_mul h5 h5) h5) (by decide)
    have hS2 : S + c i * c i * c i ≤ 125 * (i + 1) := by omega
    refine br_f (pr_n13 (by omega)) ⟨hin, hin, hin, ?_⟩
    refine nm_r (e' := nI (S + c i * c i * c i)) (by rw [nI_clamp (by omega), ha i (by omega), pk_mul, pk_mul, nI_add]) ?_
    refine pk_le 9 i (fun h9 => nm_r (nI_1 i) (ih (i + 1) _ st (by omega) hS2 ?_)) (fun h9 => ?_)
    · rw [if_neg (show ¬ i < 9 by omega)] at hp
      exact hp
    · rw [if_pos h9] at hp
      have hd : m / 2 ^ i < 2 ^ 32 := Nat.lt_of_le_of_lt (Nat.div_le_self _ _) (by omega)
      have e : (nI m >>> (nI i &&& 31)) &&& 31 = nI (m / 2 ^ i % 32) := by
        rw [pk_shrN (by omega) _ i (pr_sl i (by omega)), pk_andN hd 5 (by decide)]
      have hl : m / 2 ^ i % 32 < 2 ^ 31 := Nat.lt_trans (Nat.mod_lt _ (by decide)) (by decide)
      refine pk_eq (m / 2 ^ i % 32) 31 (fun g => nm_r (nI_1 i) (ih (i + 1) _ 1 (by omega) hS2 ?_)) (fun g => nm_r (nI_1 i) (ih (i + 1) _ st (by omega) hS2 ?_)) e rfl hl
      · rw [if_pos g] at hp; exact hp
      · rw [if_neg g] at hp; exact hp
theorem pr_ycat {post : Int32 → Prop} {n : Nat} {f : Int32} {a b : Nat → Int32} {c : Nat → Nat} (hn : n = 5)
    (ha : ∀ j, j < 13 → a j = nI (c j)) (hc : ∀ j, j < 13 → c j ≤ 5)
    (hp : post (pr_cc (pr_yK (pr_ls c 0 13)) f)) : wpY_category post (nI (pr_mk (pr_ls c 0 13)), nI n, f, a, b) := by
  have hm : pr_mk (pr_ls c 0 13) < 8192 := pr_mk_lt c 13 0
  have h5 : (5 : Int32) ≤ nI n := by rw [hn]; decide +kernel
  unfold pr_yK at hp
  have K : ∀ st, pr_y0 (pr_mk (pr_ls c 0 13)) = st → ∃ k : Nat, wY_category_34 post (nI (pr_mk (pr_ls c 0 13))) (nI n) f a b k 0 st 0 := by
    intro st e
    rw [e, ← Nat.zero_add (pr_cub (pr_ls c 0 13))] at hp
    exact ⟨14, pr_y34 hm ha hc 13 0 0 st (by omega) (by omega) hp⟩
  have hl : pr_mk (pr_ls c 0 13) &&& 4111 < 2 ^ 31 := Nat.lt_of_le_of_lt Nat.and_le_right (by decide)
  refine br_t h5 (pk_eq (pr_mk (pr_ls c 0 13) &&& 4111) 4111 (fun g => K 1 (if_pos g)) (fun g => K 0 (if_neg g)) (pr_and _ 4111) rfl hl)
/-! clear -/
theorem pr_yc7 {post : Int32 → SY → Prop} {x1 m fc f : Int32} {a b : Nat → Int32} (hp : post x1 (0, 0, 0, pr_zr a 13, pr_zr b 4)) :
    ∀ d i, i + d = 13 → wY_clear_7 post x1 m fc f (d + 1) (nI i) (pr_zr a i) (pr_zr b (if i < 4 then i else 4)) := by
  intro d
  induction d with
  | zero =>
    intro i hi
    obtain rfl : i = 13 := by omega
    exact br_t pr_c13 hp
  | succ d ih =>
    intro i hi
    have h := ih (i + 1) (by omega)
    refine br_f (pr_n13 (by omega)) ⟨vp_in_nI (by omega) (by decide), nm_r (e' := pr_zr a (i + 1)) (by rw [pr_b0]; exact pr_zrT a (by omega)) ?_⟩
    refine pk_le 4 i (fun g => nm_r (nI_1 i) ?_) (fun g => ⟨vp_in_nI (by omega) (by decide), nm_r (e' := pr_zr b (i + 1)) ?_ (nm_r (nI_1 i) ?_)⟩)
    · rw [if_neg (by omega)] at h
      rw [if_neg (by omega)]
      exact h
    · rw [pr_b0, if_pos g]
      exact pr_zrT b (by omega)
    · have e : (if i + 1 < 4 then i + 1 else 4) = i + 1 := by split <;> omega
      rw [e] at h
      exact h
theorem pr_yclear {post : Int32 → SY → Prop} {m n f : Int32} {a b : Nat → Int32} (hp : post n (0, 0, 0, pr_zr a 13, pr_zr b 4)) : wpY_clear post (m, n, f, a, b) := by
  have h := pr_yc7 (m := m) (fc := n) (f := f) hp 13 0 (by omega)
  rw [if_pos (by omega), pr_zr0, pr_zr0] at h
  exact ⟨14, h⟩
/-! add -/
theorem pr_y63 {post : Int32 → SY → Prop} {r m n : Nat} {f : Int32} {a b : Nat → Int32} (hr : r < 13) (hm : m < 8192)
    (K : post (nI (n + 1)) (nI (m ||| 2 ^ r), nI (n + 1), f, a, b)) : wY_add_63 post (nI r) (nI m) (nI n) f a b := by
  have hl : m ||| 2 ^ r < 2 ^ 13 := Nat.or_lt_two_pow hm (Nat.pow_lt_pow_right (by decide) hr)
  have e : (nI m ||| ((1 : Int32) <<< (nI r &&& 31))).toInt16.toInt32 = nI (m ||| 2 ^ r) := by
    rw [pr_sh r hr, pr_or, pr_i16 (by omega)]
  intro x hx
  refine ⟨by rw [hx]; exact pk_ns _, by rw [hx]; exact pk_fs _, ?_⟩
  rw [hx, e, nI_1 n]
  exact nm_e K
theorem pr_yadd {post : Int32 → SY → Prop} {n j m : Nat} {f : Int32} {a b : Nat → Int32} {c s : Nat → Nat} (hn : n < 5) (hj : j ≤ 51) (hm : m < 8192)
    (ha : ∀ j, j < 13 → a j = nI (c j)) (hb : ∀ j, j < 4 → b j = nI (s j)) (hc : ∀ j, j < 13 → c j ≤ 5) (hs : ∀ j, j < 4 → s j ≤ 5)
    (K : post (nI (n + 1)) (nI (m ||| 2 ^ (j % 13)), nI (n + 1), (if s (j / 13) + 1 = 5 then 1 else f), upd a (j % 13) (nI (c (j % 13) + 1)), upd b (j / 13) (nI (s (j / 13) + 1)))) :
    wpY_add post (nI m, nI n, f, a, b) (nI j) := by
  unfold wpY_add
  refine br_t (pr_l5 hn) (br_f (nI_pos (by omega)) (br_t (pr_l51 hj) ?_))
  rw [pr_rem hj, pr_div hj]
  have hr : j % 13 < 13 := Nat.mod_lt _ (by omega)
  have hq : j / 13 < 4 := by omega
  have hc5 := hc _ hr
  have hs5 := hs _ hq
  have i1 : vp_in (nI (j % 13)) 13 := vp_in_nI hr (by decide)
  have i2 : vp_in (nI (j / 13)) 4 := vp_in_nI hq (by decide)
  have n13 : ¬ (13 : Int32) = 0 := by decide
  have es : (b (nI (j / 13)).toNatClampNeg + 1).toInt8.toInt32 = nI (s (j / 13) + 1) := by
    rw [nI_clamp (by omega), hb _ hq, pr_i8 _ (by omega)]
  refine ⟨n13, nm_e ⟨i1, i1, nm_r (e' := upd a (j % 13) (nI (c (j % 13) + 1))) (by rw [pk_vb, nI_clamp (by omega), ha _ hr, pr_i8 _ (by omega)]) ?_⟩⟩
  refine ⟨n13, i2, i2, nm_r (e' := upd b (j / 13) (nI (s (j / 13) + 1))) (by rw [pk_vb, es, nI_clamp (by omega)]) ?_⟩
  refine pk_eq (s (j / 13) + 1) 5 (fun g => ?_) (fun g => ?_) es
  · rw [if_pos g] at K
    exact pr_y63 hr hm K
  · rw [if_neg g] at K
    exact pr_y63 hr hm K
end
section
/-- n cards are held; c counts them by rank, s by suit; a and b are the two tallies, alike on both sides -/
def i_Rel (_ : Nat) (u : SX) (v : SY) : Prop :=
  ∃ (n : Nat) (c s : Nat → Nat) (a b : Nat → Int32), u = (nI n, a, b) ∧ v = (nI (pr_mk (pr_ls c 0 13)), nI n, pr_fl s, a, b) ∧ n ≤ 5 ∧
    (∀ j, j < 13 → a j = nI (c j)) ∧ (∀ j, j < 4 → b j = nI (s j)) ∧ pr_sum (pr_ls c 0 13) = n ∧ (∀ j, j < 13 → c j ≤ n) ∧ (∀ j, j < 4 → s j ≤ n)
theorem i_up {k : Nat} {u : SX} {v : SY} (h : i_Rel k u v) : i_Rel (k + 2) u v := h
theorem i_vc0 : wpX_init (fun u => wpY_init (fun v => i_Rel 0 u v)) :=
  ⟨0, fun _ => 0, fun _ => 0, fun _ => 0, fun _ => 0, rfl, rfl, by omega, fun _ _ => nI_0.symm, fun _ _ => nI_0.symm, rfl, fun _ _ => Nat.le_refl 0, fun _ _ => Nat.le_refl 0⟩
theorem i_vc_add {k : Nat} {u : SX} {v : SY} (I : i_Rel k u v) (hk : k + 2 ≤ 1024) (v1 : Int32) : wpX_add (fun r u' => wpY_add (fun r' v' => r' = r ∧ i_Rel (k + 2) u' v') v v1) u v1 := by
  have I2 : i_Rel (k + 2) u v := I
  obtain ⟨n, c, s, a, b, rfl, rfl, hn, ha, hb, hsum, hc, hs⟩ := I
  by_cases h5 : n < 5
  · have l5 := pr_l5 h5
    by_cases h0 : v1 < 0
    · exact br_t l5 (br_t h0 (br_t l5 (br_t h0 ⟨rfl, I2⟩)))
    · by_cases h51 : v1 ≤ 51
      · obtain ⟨j, hj, rfl⟩ := nI_of2 (M := 51) (n := 51) (by decide) h0 h51
        have hr : j % 13 < 13 := Nat.mod_lt _ (by omega)
        have hq : j / 13 < 4 := by omega
        have hc5 : ∀ j, j < 13 → c j ≤ 5 := fun j h => Nat.le_trans (hc j h) hn
        have hs5 : ∀ j, j < 4 → s j ≤ 5 := fun j h => Nat.le_trans (hs j h) hn
        refine pr_xadd h5 hj ha hb (pr_yadd h5 hj (pr_mk_lt c 13 0) ha hb hc5 hs5 ⟨rfl, ?_⟩)
        refine ⟨n + 1, pr_bump c (j % 13), pr_bump s (j / 13), _, _, rfl, ?_, by omega, pr_bump_a ha, pr_bump_a hb, ?_, pr_bump_le hc, pr_bump_le hs⟩
        · rw [pr_mk_bump c hr, pr_fl_bump hq (fun j h => Nat.le_trans (hs j h) (by omega))]
        · rw [pr_sum_bump, if_pos (by omega), hsum]
      · exact br_t l5 (br_f h0 (br_f h51 (br_t l5 (br_f h0 (br_f h51 ⟨rfl, I2⟩)))))
  · have l5 : ¬ nI n < 5 := nI_nlt (b := 5) (by omega) (by omega)
    exact br_f l5 (br_f l5 ⟨rfl, I2⟩)
theorem i_vc_category {k : Nat} {u : SX} {v : SY} (I : i_Rel k u v) (hk : k + 2 ≤ 1024) : wpX_category (fun r => wpY_category (fun r' => r' = r ∧ i_Rel (k + 2) u v) v) u := by
  have I2 : i_Rel (k + 2) u v := I
  obtain ⟨n, c, s, a, b, rfl, rfl, hn, ha, hb, hsum, hc, hs⟩ := I
  by_cases h5 : n < 5
  · have l5 : ¬ (5 : Int32) ≤ nI n := nI_ge (b := 5) h5 (by decide)
    exact br_f l5 (br_f l5 ⟨rfl, I2⟩)
  · have e5 : n = 5 := by omega
    have hc5 : ∀ j, j < 13 → c j ≤ 5 := fun j h => Nat.le_trans (hc j h) hn
    have hs5 : ∀ j, j < 4 → s j ≤ 5 := fun j h => Nat.le_trans (hs j h) hn
    refine pr_xcat e5 ha hb hc5 hs5 (pr_ycat e5 ha hc5 ⟨?_, I2⟩)
    rw [pr_law c (hsum.trans e5)]
theorem i_vc_clear {k : Nat} {u : SX} {v : SY} (I : i_Rel k u v) (hk : k + 2 ≤ 1024) : wpX_clear (fun r u' => wpY_clear (fun r' v' => r' = r ∧ i_Rel (k + 2) u' v') v) u := by
  obtain ⟨n, c, s, a, b, rfl, rfl, hn, ha, hb, hsum, hc, hs⟩ := I
  refine pr_xclear (pr_yclear ⟨rfl, ?_⟩)
  exact ⟨0, fun _ => 0, fun _ => 0, _, _, rfl, rfl, by omega, fun j h => (if_pos h).trans nI_0.symm, fun j h => (if_pos h).trans nI_0.symm, rfl, fun _ _ => Nat.le_refl 0, fun _ _ => Nat.le_refl 0⟩
end
