section
/-! rows of kit/laws (starting texts): STRINGBUILDER-LAWS.1, STRING-CONSTANT-LAWS.2 -/
theorem sb_copyOf {post : StJefc9b → Prop} {mc ms : Nat} {a : Nat → Int32} {m q : Nat} (h : m < q) (hq : q ≤ 65536) (hf : sb_Fit a) (hmc : 1 ≤ mc) (hms : q ≤ ms)
    (hp : post (a, m, va_cpy a (fun _ => 0) 0 0 m, q)) : wpJ7_copyOf_9075b_9260e post mc ms (a, m) (nI q) := by
  have ei : (if nI q < Int32.ofNat m then nI q else Int32.ofNat m) = nI m := if_neg (nI_nlt (by omega) (by omega))
  have ec : (nI m).toNatClampNeg = m := nI_clamp (by omega)
  refine br_f (fun z => by have := (nI_eq (by omega) (by omega)).mp (show nI q = nI m from z); omega) ⟨nI_pos (by omega), nm_r (nI_clamp (by omega)) ⟨by omega, hmc, by omega, ?_⟩⟩
  rw [ei, ec, sb_cl0]
  exact ⟨by decide, by decide, nI_pos (by omega), by omega, by omega, fun i _ => hf _, nm_e hp⟩
/-- AbstractStringBuilder.ensureCapacityInternal, of Latin-1 bytes -/
theorem sb_ensure {post : StJ4ec0e → Prop} {mc ms : Nat} {ml z : Int32} {a : Nat → Int32} {m q : Nat} (hm : m ≤ 65536) (hq : q < 2 ^ 28) (hf : sb_Fit a) (hr : sb_Room q m mc ms)
    (hp : ∀ a', sb_Fit a' → (∀ j, j < m → a' j = a j) → post (0, ml, z, a', sb_cap q m)) : wpJ5_ensureCapacityInternal_d00df_b0715 post mc ms (0, ml, z, a, m) (nI q) := by
  have e1 : (nI q - Int32.ofNat m).toInt = (q : Int) - m := pk_sub_toInt (by omega) (by omega)
  refine nm_r (sb_shr0 (Int32.ofNat m)) ?_
  by_cases h : q ≤ m
  · refine br_t (by rw [Int32.le_iff_toInt_le, e1, Int32.toInt_zero]; omega) ?_
    have h9 := hp a hf (fun _ _ => rfl)
    rw [sb_cap, if_pos h] at h9
    exact h9
  · have hr' : 1 ≤ mc ∧ sb_cap q m ≤ ms ∧ sb_cap q m ≤ 65536 := hr.resolve_left h
    have hc : sb_cap q m = m + (if q - m < m + 2 then m + 2 else q - m) := by
      unfold sb_cap
      rw [if_neg h]
      split <;> split <;> omega
    have hg := sb_cap_ge q m
    refine br_f (fun hc => h (by rw [Int32.le_iff_toInt_le, e1, Int32.toInt_zero] at hc; omega)) ?_
    have e2 : Int32.ofNat m + ((2 : Int32) <<< ((0 : Int32) &&& 31)) = nI (m + 2) := by
      rw [sb_shl0]
      exact nI_add m 2
    have e3 : Int32.ofNat m + (if nI (q - m) < nI (m + 2) then nI (m + 2) else nI (q - m)) = nI (sb_cap q m) := by
      rw [hc]
      by_cases h2 : q - m < m + 2
      · rw [if_pos h2, if_pos (nI_lt h2 (by omega))]
        exact nI_add m (m + 2)
      · rw [if_neg h2, if_neg (nI_nlt (by omega) (by omega))]
        exact nI_add m (q - m)
    refine nm_e (nm_r (sb_shl0 (nI q)) (nm_r (show nI q - nI m = nI (q - m) from pk_sub (by omega)) ?_))
    rw [e2]
    refine nm_r e3 (br_f (nI_nle (by omega) (by omega)) (br_f (show ¬ nI 2147483639 < nI (sb_cap q m) from nI_nlt (by omega) (by decide)) ?_))
    refine br_f (fun z9 => by have := (nI_eq (by omega) (by decide)).mp (show nI (sb_cap q m) = nI 2147483647 from z9); omega) ?_
    rw [sb_shr0]
    refine ⟨mc, ms, by omega, by omega, ?_⟩
    rw [sb_shl0]
    exact sb_copyOf (by omega) hr'.2.2 hf hr'.1 hr'.2.1 (hp _ (sb_fitC hf sb_fit0) (fun j hj => sb_cpy0 hj))
/-- StringBuilder.append(char), a Latin-1 letter c -/
theorem sb_appendChar {post : StJ4ec0e → Prop} {mc ms : Nat} {ml : Int32} {t : Nat → Nat} {a : Nat → Int32} {n m c : Nat} (hnm : n ≤ m) (hm : m ≤ 65536) (hL : sb_Lat t n a) (hf : sb_Fit a) (hc : c < 256) (hr : sb_Room (n + 1) m mc ms)
    (hp : ∀ a', sb_Lat (sb_cat t n (fun _ => c)) (n + 1) a' → sb_Fit a' → post (0, ml, nI (n + 1), a', sb_cap (n + 1) m)) : wpJ4_append_cf468_b0715 post mc ms (0, ml, nI n, a, m) (nI c) := by
  have hg := sb_cap_ge (n + 1) m
  have hl := sb_cap_le hm hr
  refine ⟨mc, ms, by omega, by omega, mc, ms, by omega, by omega, ?_⟩
  rw [nI_1]
  refine sb_ensure hm (by omega) hf hr (fun a' hf' hk => ?_)
  refine br_t rfl (br_f (by decide) ?_)
  refine br_f (show ¬ nI 255 < nI c from nI_nlt (by omega) (by decide)) (br_f (by decide) ?_)
  refine nm_r (nI_1 n) ⟨vp_in_nI (by omega) (by omega), nm_r (e' := upd a' n (sb_b c)) (by rw [nI_clamp (by omega), pk_vb]; rfl) ?_⟩
  refine hp _ (sb_latPut hL (fun j hj => ?_) (fun i hi => ?_)) (sb_fitU hf' (sb_fitB c))
  · rw [pk_un (by omega)]
    exact hk j (by omega)
  · obtain rfl : i = 0 := by omega
    exact ⟨hc, pk_us⟩
theorem sb_copyRange {post : StJefc9b → Prop} {mc ms : Nat} {a : Nat → Int32} {n m : Nat} (hnm : n ≤ m) (hm : m ≤ 65536) (hf : sb_Fit a) (hmc : 1 ≤ mc) (hms : n ≤ ms)
    (hp : ∀ a', sb_Fit a' → (∀ j, j < n → a' j = a j) → post (a, m, a', n)) : wpJ7_copyOfRange_39247_f5dda post mc ms (a, m) 0 (nI n) := by
  refine br_t rfl (pk_eq n m (fun e => ?_) (fun e => ?_))
  · subst e
    exact ⟨fun i _ => hf i, hmc, by omega, hp a hf (fun _ _ => rfl)⟩
  · have ei : (if nI n < (Int32.ofNat m - 0) then nI n else (Int32.ofNat m - 0)) = nI n := by
      rw [show Int32.ofNat m - 0 = nI m from pk_sub (a := m) (b := 0) (by omega)]
      exact if_pos (nI_lt (by omega) (by omega))
    refine ⟨mc, ms, by omega, by omega, br_t (nI_pos' (by omega)) (nm_r (e' := nI n) (pk_sub (a := n) (b := 0) (by omega)) ⟨nI_pos (by omega), nm_r (nI_clamp (by omega)) ⟨by omega, hmc, by omega, ?_⟩⟩)⟩
    rw [ei, nI_clamp (n := n) (by omega), sb_cl0]
    exact ⟨by decide, by decide, nI_pos (by omega), by omega, by omega, fun i _ => hf _, nm_e (hp _ (sb_fitC hf sb_fit0) (fun j hj => sb_cpy0 hj))⟩
/-- StringBuilder.toString -/
theorem sb_toString {post : StJ9c5ae → Prop} {mc ms : Nat} {ml : Int32} {t : Nat → Nat} {a : Nat → Int32} {n m : Nat} (hnm : n ≤ m) (hm : m ≤ 65536) (hL : sb_Lat t n a) (hf : sb_Fit a) (hmc : 2 ≤ mc) (hms : n + 4 ≤ ms)
    (hp : ∀ a', sb_Lat t n a' → sb_Fit a' → post (0, ml, nI n, a, m, 0, 0, 0, a', n)) : wpJ4_toString_0e30d_76c3d post mc ms (0, ml, nI n, a, m) := by
  refine ⟨by omega, by omega, mc - 1, ms - 4, by omega, by omega, mc - 1, ms - 4, by omega, by omega, br_t rfl (br_f (by decide) ⟨mc - 1, ms - 4, by omega, by omega, ?_⟩)⟩
  exact sb_copyRange hnm hm hf (by omega) (by omega) (fun a' hf' hk => hp a' (sb_latKeep hL hk) hf')
/-- String.equals of two Strings with the same bytes -/
theorem sv_equals {post : Int32 → Prop} {h z h' z' : Int32} {a a' : Nat → Int32} {n : Nat} (hn : n ≤ 65536) (he : ∀ j, j < n → a j = a' j) (hp : post 1) : wpJ0_equals_9ea2d_d3b40 post (0, h, z, a, n, 0, h', z', a', n) := by
  have L : ∀ (P : Int32 → Prop), P 1 → ∀ (d k : Nat), k + d = n → wJ1_equals_b5fdf_9f0d2_9 P a n a' n (d + 1) (nI k) := by
    intro P h1 d
    induction d with
    | zero =>
      intro k hk
      rw [wJ1_equals_b5fdf_9f0d2_9]
      exact br_t ((nI_leI (by omega) (by omega)).mpr (by omega)) h1
    | succ d ih =>
      intro k hk
      rw [wJ1_equals_b5fdf_9f0d2_9]
      refine br_f (nI_ge (by omega) (by omega)) ⟨vp_in_nI (by omega) (by omega), vp_in_nI (by omega) (by omega), br_t ?_ (nm_r (nI_1 k) (ih (k + 1) (by omega)))⟩
      rw [nI_clamp (by omega)]
      exact he k (by omega)
  exact br_t rfl (br_t rfl ⟨n + 1, L _ (br_f (by decide) hp) n 0 (by omega)⟩)
/-- every literal: its length is its byte list's, every entry is a byte -/
theorem sc_all : ∀ i, i < nJS → (lenJS.getD i 0 = (bytJS.getD i []).length ∧ (bytJS.getD i []).length < 2 ^ 31 ∧ ∀ b ∈ bytJS.getD i [], b.toInt8.toInt32 = b) := by decide +kernel
/-- the char at k -/
def sc_ch (i k : Nat) : Int32 := (bytJS.getD i []).getD k 0 &&& 255
/-- charAt(k) -/
theorem sc_charAt {post : Int32 → Prop} {u : StJ02238} {i k : Nat} (hi : i < nJS) (hk : k < lenJS.getD i 0) (h : post (sc_ch i k)) : wpJ0_charAt_5068e_7076d post u i (nI k) := by
  obtain ⟨hl, hL, -⟩ := sc_all i hi
  have eX : ((((bytJS.getD i []).getD (nI k).toNatClampNeg 0) &&& 255).toUInt32 % 65536).toInt32 = sc_ch i k := by
    rw [nI_clamp (by omega)]
    exact sc_c2 _
  have nX : narrow .char (.int (sc_ch i k)) = .int (sc_ch i k) := sc_nar _
  refine ⟨hi, hi, br_f (by decide) ⟨hi, ?_⟩⟩
  have core : vp_in (nI k) (lenJS.getD i 0) ∧ (narrow .char (.int ((((bytJS.getD i []).getD (nI k).toNatClampNeg 0) &&& 255).toUInt32 % 65536).toInt32) = .int ((((bytJS.getD i []).getD (nI k).toNatClampNeg 0) &&& 255).toUInt32 % 65536).toInt32 ∧ (narrow .char (.int ((((bytJS.getD i []).getD (nI k).toNatClampNeg 0) &&& 255).toUInt32 % 65536).toInt32) = .int ((((bytJS.getD i []).getD (nI k).toNatClampNeg 0) &&& 255).toUInt32 % 65536).toInt32 ∧ post ((((bytJS.getD i []).getD (nI k).toNatClampNeg 0) &&& 255).toUInt32 % 65536).toInt32)) := by
    rw [eX]
    exact ⟨vp_in_nI hk (by omega), nX, nX, h⟩
  exact ⟨br_f (nI_pos (by omega)) (br_t (nI_lt hk (by omega)) core), br_f (nI_pos (by omega)) (br_t (nI_lt hk (by omega)) core)⟩
end
section
/-! the pure picture: the bits of n bytes as one stream, its sextets, their signs -/
/-- byte j as a natural -/
def zc_B (a : Nat → Int32) (j : Nat) : Nat := (a j).toBitVec.toNat % 256
/-- bit i of the stream of n bytes, a byte's highest bit first; behind the end 0 -/
def zc_f (a : Nat → Int32) (n i : Nat) : Nat := if i < 8 * n then zc_B a (i / 8) / 2 ^ (7 - i % 8) % 2 else 0
/-- the first i bits as a number -/
def zc_V (a : Nat → Int32) (n : Nat) : Nat → Nat
  | 0 => 0
  | i + 1 => 2 * zc_V a n i + zc_f a n i
/-- the sign of a number below 64 -/
def zc_c (v : Nat) : Nat := if v < 26 then 65 + v else if v < 52 then 71 + v else if v < 62 then v - 4 else if v = 62 then 45 else 95
/-- letter k of the text -/
def zc_T (a : Nat → Int32) (n k : Nat) : Nat := zc_c (zc_V a n (6 * k + 6) % 64)
theorem zc_V_s (a : Nat → Int32) (n i : Nat) : zc_V a n (i + 1) = 2 * zc_V a n i + zc_f a n i := rfl
theorem zc_B_lt (a : Nat → Int32) (j : Nat) : zc_B a j < 256 := Nat.mod_lt _ (by decide)
theorem zc_f_lt (a : Nat → Int32) (n i : Nat) : zc_f a n i < 2 := by
  unfold zc_f
  split
  · exact Nat.mod_lt _ (by decide)
  · decide
theorem zc_f_at {a : Nat → Int32} {n j r : Nat} (hj : j < n) (hr : r < 8) : zc_f a n (8 * j + r) = zc_B a j / 2 ^ (7 - r) % 2 := by
  unfold zc_f
  rw [if_pos (by omega), show (8 * j + r) / 8 = j by omega, show (8 * j + r) % 8 = r by omega]
theorem zc_f_out {a : Nat → Int32} {n i : Nat} (h : 8 * n ≤ i) : zc_f a n i = 0 := by
  unfold zc_f
  exact if_neg (by omega)
theorem zc_sum : ∀ B, B < 256 → B = 128 * (B / 128 % 2) + 64 * (B / 64 % 2) + 32 * (B / 32 % 2) + 16 * (B / 16 % 2) + 8 * (B / 8 % 2) + 4 * (B / 4 % 2) + 2 * (B / 2 % 2) + B / 1 % 2 := by decide +kernel
/-- one more byte -/
theorem zc_V_byte {a : Nat → Int32} {n j : Nat} (hj : j < n) : zc_V a n (8 * (j + 1)) = zc_V a n (8 * j) * 256 + zc_B a j := by
  have h0 : zc_f a n (8 * j) = zc_B a j / 128 % 2 := zc_f_at (r := 0) hj (by decide)
  have h1 : zc_f a n (8 * j + 1) = zc_B a j / 64 % 2 := zc_f_at (r := 1) hj (by decide)
  have h2 : zc_f a n (8 * j + 2) = zc_B a j / 32 % 2 := zc_f_at (r := 2) hj (by decide)
  have h3 : zc_f a n (8 * j + 3) = zc_B a j / 16 % 2 := zc_f_at (r := 3) hj (by decide)
  have h4 : zc_f a n (8 * j + 4) = zc_B a j / 8 % 2 := zc_f_at (r := 4) hj (by decide)
  have h5 : zc_f a n (8 * j + 5) = zc_B a j / 4 % 2 := zc_f_at (r := 5) hj (by decide)
  have h6 : zc_f a n (8 * j + 6) = zc_B a j / 2 % 2 := zc_f_at (r := 6) hj (by decide)
  have h7 : zc_f a n (8 * j + 7) = zc_B a j / 1 % 2 := zc_f_at (r := 7) hj (by decide)
  have k0 : zc_V a n (8 * j + 1) = 2 * zc_V a n (8 * j) + zc_f a n (8 * j) := zc_V_s a n (8 * j)
  have k1 : zc_V a n (8 * j + 2) = 2 * zc_V a n (8 * j + 1) + zc_f a n (8 * j + 1) := zc_V_s a n (8 * j + 1)
  have k2 : zc_V a n (8 * j + 3) = 2 * zc_V a n (8 * j + 2) + zc_f a n (8 * j + 2) := zc_V_s a n (8 * j + 2)
  have k3 : zc_V a n (8 * j + 4) = 2 * zc_V a n (8 * j + 3) + zc_f a n (8 * j + 3) := zc_V_s a n (8 * j + 3)
  have k4 : zc_V a n (8 * j + 5) = 2 * zc_V a n (8 * j + 4) + zc_f a n (8 * j + 4) := zc_V_s a n (8 * j + 4)
  have k5 : zc_V a n (8 * j + 6) = 2 * zc_V a n (8 * j + 5) + zc_f a n (8 * j + 5) := zc_V_s a n (8 * j + 5)
  have k6 : zc_V a n (8 * j + 7) = 2 * zc_V a n (8 * j + 6) + zc_f a n (8 * j + 6) := zc_V_s a n (8 * j + 6)
  have k7 : zc_V a n (8 * (j + 1)) = 2 * zc_V a n (8 * j + 7) + zc_f a n (8 * j + 7) := zc_V_s a n (8 * j + 7)
  have hs := zc_sum _ (zc_B_lt a j)
  rw [k7, k6, k5, k4, k3, k2, k1, k0, h0, h1, h2, h3, h4, h5, h6, h7]
  omega
/-- a prefix of the stream is what a shift leaves -/
theorem zc_V_div (a : Nat → Int32) (n i : Nat) : ∀ s, zc_V a n (i + s) / 2 ^ s = zc_V a n i := by
  intro s
  induction s with
  | zero => rw [Nat.pow_zero, Nat.div_one, Nat.add_zero]
  | succ s ih =>
    have h := zc_f_lt a n (i + s)
    rw [show i + (s + 1) = i + s + 1 by omega, zc_V_s, Nat.pow_succ, Nat.mul_comm (2 ^ s) 2, ← Nat.div_div_eq_div_mul, show (2 * zc_V a n (i + s) + zc_f a n (i + s)) / 2 = zc_V a n (i + s) by omega]
    exact ih
/-- behind the end the stream holds zeros -/
theorem zc_V_tail {a : Nat → Int32} {n i : Nat} (h : 8 * n ≤ i) : ∀ s, zc_V a n (i + s) = zc_V a n i * 2 ^ s := by
  intro s
  induction s with
  | zero => rw [Nat.pow_zero, Nat.mul_one, Nat.add_zero]
  | succ s ih =>
    rw [show i + (s + 1) = i + s + 1 by omega, zc_V_s, zc_f_out (by omega), ih, Nat.add_zero, Nat.pow_succ, Nat.mul_comm (2 ^ s) 2, Nat.mul_left_comm]
theorem zc_c_lt (v : Nat) : zc_c v < 256 := by
  unfold zc_c
  split
  · omega
  · split
    · omega
    · split
      · omega
      · split <;> decide
theorem zc_T_lt (a : Nat → Int32) (n k : Nat) : zc_T a n k < 256 := zc_c_lt _
/-! the same in ints -/
theorem zc_ti (x : Int32) : x.toInt = (x.toBitVec.toNat : Int) ∨ x.toInt = (x.toBitVec.toNat : Int) - 4294967296 := by
  have h : x.toInt = if 2 * x.toBitVec.toNat < 2 ^ 32 then (x.toBitVec.toNat : Int) else (x.toBitVec.toNat : Int) - ((2 ^ 32 : Nat) : Int) := BitVec.toInt_eq_toNat_cond x.toBitVec
  rw [h]
  split <;> omega
theorem zc_tn (A : Nat) : (nI A).toBitVec.toNat = A % 4294967296 := BitVec.toNat_ofNat A 32
theorem zc_acc (A : Nat) {c : Nat} (hc : c < 256) : (nI A <<< ((8 : Int32) &&& 31)) ||| nI c = nI (A * 256 + c) := by
  apply Int32.toBitVec_inj.mp
  apply BitVec.eq_of_toNat_eq
  rw [Int32.toBitVec_or, BitVec.toNat_or, pk_shl _ _ 8 (by decide), zc_tn, zc_tn, zc_tn, show A % 4294967296 * 2 ^ 8 % 2 ^ 32 = 2 ^ 8 * (A % 16777216) by omega, show c % 4294967296 = c by omega, ← Nat.two_pow_add_eq_or_of_lt (show c < 2 ^ 8 from hc)]
  omega
theorem zc_cnt : ∀ s, s < 8 → ((nI s &&& 31).toBitVec.smod 32).toNat = s := by decide +kernel
theorem zc_pick {P : Nat → Prop} (h0 : P 0) (h1 : P 1) (h2 : P 2) (h3 : P 3) (h4 : P 4) (h5 : P 5) (h6 : P 6) (h7 : P 7) {s : Nat} (hs : s < 8) : P s := by
  match s, hs with
  | 0, _ => exact h0
  | 1, _ => exact h1
  | 2, _ => exact h2
  | 3, _ => exact h3
  | 4, _ => exact h4
  | 5, _ => exact h5
  | 6, _ => exact h6
  | 7, _ => exact h7
theorem zc_shrN (A x : Nat) (X Y : Int) (hx : X = x ∨ X = x - 4294967296) (hY : Y = ((A % 4294967296 : Nat) : Int) ∨ Y = ((A % 4294967296 : Nat) : Int) - 4294967296) {s : Nat} (hs : s < 8) : X = Y / ((2 ^ s : Nat) : Int) → x % 64 = A / 2 ^ s % 64 := by
  refine zc_pick (P := fun s => X = Y / ((2 ^ s : Nat) : Int) → x % 64 = A / 2 ^ s % 64) ?_ ?_ ?_ ?_ ?_ ?_ ?_ ?_ hs <;> (intro h; omega)
/-- a sextet out of the accumulator -/
theorem zc_shr (A : Nat) {s : Nat} (hs : s < 8) : (nI A >>> (nI s &&& 31)) &&& 63 = nI (A / 2 ^ s % 64) := by
  have h := pk_shr (nI A) (nI s &&& 31) s (zc_cnt s hs)
  rw [Int.shiftRight_eq_div_pow] at h
  have hY := zc_ti (nI A)
  rw [zc_tn] at hY
  rw [pk_and _ 6 (by decide)]
  exact congrArg nI (zc_shrN A _ _ _ (zc_ti _) hY hs h)
theorem zc_shlN (A : Nat) {s : Nat} (hs : s < 8) : A % 4294967296 * 2 ^ s % 2 ^ 32 % 2 ^ 6 = A * 2 ^ s % 64 := by
  refine zc_pick (P := fun s => A % 4294967296 * 2 ^ s % 2 ^ 32 % 2 ^ 6 = A * 2 ^ s % 64) ?_ ?_ ?_ ?_ ?_ ?_ ?_ ?_ hs <;> omega
theorem zc_shl (A : Nat) {s : Nat} (hs : s < 8) : (nI A <<< (nI s &&& 31)) &&& 63 = nI (A * 2 ^ s % 64) := by
  rw [pk_and _ 6 (by decide), pk_shl _ _ s (zc_cnt s hs), zc_tn, zc_shlN A hs]
theorem zc_and (a : Nat → Int32) (j : Nat) : a j &&& 255 = nI (zc_B a j) := pk_and (a j) 8 (by decide)
/-- a byte as the array holds it -/
theorem zc_byte {a : Nat → Int32} {j : Nat} (h : (a j).toInt8.toInt32 = a j) : a j = sb_b (zc_B a j) := (sc_eq h (zc_B_lt a j)).mpr (zc_and a j)
theorem zc_uns : ∀ t, t < 256 → ((0 : Int32) ≤ sb_b t → sb_b t = nI t) ∧ (¬ (0 : Int32) ≤ sb_b t → sb_b t + 256 = nI t) := by decide +kernel
/-- the component's table and the twin's branches -/
theorem zc_tab : ∀ v, v < 64 → sc_ch 0 v = nI (zc_c v) := by decide +kernel
theorem zc_s1 : ∀ v, v < 64 → v < 26 → ((65 + nI v).toUInt32 % 65536).toInt32 = nI (zc_c v) := by decide +kernel
theorem zc_s2 : ∀ v, v < 64 → 26 ≤ v → v < 52 → (((97 + nI v) - 26).toUInt32 % 65536).toInt32 = nI (zc_c v) := by decide +kernel
theorem zc_s3 : ∀ v, v < 64 → 52 ≤ v → v < 62 → (((48 + nI v) - 52).toUInt32 % 65536).toInt32 = nI (zc_c v) := by decide +kernel
theorem zc_s4 : ∀ v, v < 64 → v = 62 → (45 : Int32) = nI (zc_c v) := by decide +kernel
theorem zc_s5 : ∀ v, v < 64 → 62 ≤ v → ¬ v = 62 → (95 : Int32) = nI (zc_c v) := by decide +kernel
end
section
/-! the JDK's members as this claim calls them: a builder of capacity 16, texts of at most 10 signs -/
theorem zc_lat {T : Nat → Nat} {k : Nat} {b : Nat → Int32} (h : sb_Lat (sb_cat T k (fun _ => T k)) (k + 1) b) : sb_Lat T (k + 1) b := by
  intro j hj
  have e : sb_cat T k (fun _ => T k) j = T j := by
    unfold sb_cat
    split
    · rfl
    · exact congrArg T (by omega)
  have h2 := h j hj
  rw [e] at h2
  exact h2
theorem zc_append {post : StJ4ec0e → Prop} {ml : Int32} {T : Nat → Nat} {b : Nat → Int32} {k : Nat} (hk : k < 16) (hL : sb_Lat T k b) (hf : sb_Fit b) (hc : T k < 256)
    (hp : ∀ b', sb_Lat T (k + 1) b' → sb_Fit b' → post (0, ml, nI (k + 1), b', 16)) : wpJ4_append_cf468_b0715 post 0 0 (0, ml, nI k, b, 16) (nI (T k)) := by
  refine sb_appendChar (by omega) (by decide) hL hf hc (Or.inl (by omega)) (fun b' h1 h2 => ?_)
  have e : sb_cap (k + 1) 16 = 16 := if_pos (by omega)
  rw [e]
  exact hp b' (zc_lat h1) h2
theorem zc_charAt {post : Int32 → Prop} {x : Int32} {v : Nat} (hx : x = nI v) (hv : v < 64) (h : post (nI (zc_c v))) : wpJ0_charAt_5068e_7076d post () 0 x := by
  rw [hx]
  refine sc_charAt (by decide) hv ?_
  rw [zc_tab v hv]
  exact h
theorem zc_init {post : StJ4ec0e → Prop} (hp : post (0, 0, 0, (fun _ => 0), 16)) : wpJ4_init_da8c8_e1428 post 1 16 (0, 0, 0) :=
  ⟨1, 16, by decide, by decide, by decide, nm_r (e' := 16) (by decide) ⟨by decide, by decide, by decide, hp⟩⟩
theorem zc_lat0 (T : Nat → Nat) (b : Nat → Int32) : sb_Lat T 0 b := fun j hj => absurd hj (Nat.not_lt_zero j)
/-! the component: packed -/
theorem zc_x112 {post : St2 → Prop} {mc ms kc ks : Nat} {a b : Nat → Int32} {n k : Nat} {T : Nat → Nat} (hk : k ≤ 10) (hmc : kc + 2 ≤ mc) (hms : ks + 14 ≤ ms) (hL : sb_Lat T k b) (hf : sb_Fit b)
    (hp : ∀ s, sb_Lat T k s → post (a, n, 0, 0, 0, s, k)) : wX3_packed_112 post mc ms kc ks a n 0 0 (nI k) b 16 :=
  ⟨2, 14, hmc, hms, sb_toString (by omega) (by decide) hL hf (by decide) (by omega) (fun s h1 _ => hp s h1)⟩
theorem zc_x52 {post : St2 → Prop} {mc ms kc ks : Nat} {J : Int32 → Int32 → Int32 → Nat → Nat → (Nat → Int32) → Nat → Int32 → Int32 → Int32 → (Nat → Int32) → Nat → Prop} {x5 : Int32} {a : Nat → Int32} {n j : Nat} (hj : j < n) (hn : n ≤ 7) (hmc : kc ≤ mc) (hms : ks ≤ ms)
    (hJ : ∀ b, sb_Lat (zc_T a n) (8 * (j + 1) / 6) b → sb_Fit b → J (nI (zc_V a n (8 * (j + 1)))) (nI (8 * (j + 1) % 6)) (nI (j + 1)) kc ks a n 0 0 (nI (8 * (j + 1) / 6)) b 16) :
    ∀ (d k r : Nat) (b : Nat → Int32), r < 6 * (d + 1) → r < 14 → 6 * k + r = 8 * (j + 1) → sb_Lat (zc_T a n) k b → sb_Fit b → wX3_packed_52 post mc ms J (nI (zc_V a n (8 * (j + 1)))) x5 (nI j) (d + 1) (nI r) kc ks a n 0 0 (nI k) b 16 := by
  intro d
  induction d with
  | zero =>
    intro k r b h1 h2 h3 hL hf
    have e1 : 8 * (j + 1) / 6 = k := by omega
    have e2 : 8 * (j + 1) % 6 = r := by omega
    rw [e1, e2] at hJ
    exact pk_lt r 6 (fun _ => nm_r (nI_1 j) (hJ b hL hf)) (fun z => absurd z (by omega))
  | succ d ih =>
    intro k r b h1 h2 h3 hL hf
    refine pk_lt r 6 (fun z => ?_) (fun z => ?_)
    · have e1 : 8 * (j + 1) / 6 = k := by omega
      have e2 : 8 * (j + 1) % 6 = r := by omega
      rw [e1, e2] at hJ
      exact nm_r (nI_1 j) (hJ b hL hf)
    · have hx : (nI (zc_V a n (8 * (j + 1))) >>> ((nI r - 6) &&& 31)) &&& 63 = nI (zc_V a n (6 * k + 6) % 64) := by
        rw [show nI r - 6 = nI (r - 6) from pk_sub (a := r) (b := 6) z, zc_shr _ (by omega), show 8 * (j + 1) = 6 * k + 6 + (r - 6) by omega, zc_V_div]
      have hr : nI r + (-6) = nI (r - 6) := by
        rw [show nI r = nI (r - 6) + nI 6 from ((nI_add (r - 6) 6).trans (congrArg nI (by omega))).symm, Int32.add_assoc, show nI 6 + (-6) = 0 by decide, Int32.add_zero]
      refine zc_charAt hx (Nat.mod_lt _ (by decide)) ⟨0, 0, hmc, hms, ?_⟩
      exact zc_append (T := zc_T a n) (by omega) hL hf (zc_T_lt a n k) (fun b' h4 h5 => nm_r hr (ih (k + 1) (r - 6) b' (by omega) (by omega) (by omega) h4 h5))
theorem zc_x23 {post : St2 → Prop} {mc ms kc ks : Nat} {a : Nat → Int32} {n : Nat} (hn : n ≤ 7) (hmc : kc + 2 ≤ mc) (hms : ks + 14 ≤ ms)
    (hp : ∀ s, sb_Lat (zc_T a n) ((8 * n + 5) / 6) s → post (a, n, 0, 0, 0, s, (8 * n + 5) / 6)) :
    ∀ (d j : Nat) (b : Nat → Int32), j + d = n → sb_Lat (zc_T a n) (8 * j / 6) b → sb_Fit b → wX3_packed_23 post mc ms (nI n) (d + 1) (nI (zc_V a n (8 * j))) (nI (8 * j % 6)) (nI j) kc ks a n 0 0 (nI (8 * j / 6)) b 16 := by
  intro d
  induction d with
  | zero =>
    intro j b hd hL hf
    obtain rfl : j = n := by omega
    refine pk_le j j (fun _ => pk_le (8 * j % 6) 0 (fun z => ?_) (fun z => ?_)) (fun z => absurd z (by omega))
    · rw [show (8 * j + 5) / 6 = 8 * j / 6 by omega] at hp
      exact zc_x112 (by omega) hmc hms hL hf hp
    · rw [show (8 * j + 5) / 6 = 8 * j / 6 + 1 by omega] at hp
      have hx : (nI (zc_V a j (8 * j)) <<< ((6 - nI (8 * j % 6)) &&& 31)) &&& 63 = nI (zc_V a j (6 * (8 * j / 6) + 6) % 64) := by
        rw [show 6 - nI (8 * j % 6) = nI (6 - 8 * j % 6) from pk_sub (a := 6) (b := 8 * j % 6) (by omega), zc_shl _ (by omega), ← zc_V_tail (Nat.le_refl _), show 8 * j + (6 - 8 * j % 6) = 6 * (8 * j / 6) + 6 by omega]
      refine zc_charAt hx (Nat.mod_lt _ (by decide)) ⟨0, 0, by omega, by omega, ?_⟩
      exact zc_append (T := zc_T a j) (by omega) hL hf (zc_T_lt a j _) (fun b' h4 h5 => zc_x112 (by omega) hmc hms h4 h5 hp)
  | succ d ih =>
    intro j b hd hL hf
    have hj : j < n := by omega
    refine pk_le n j (fun z => absurd z (by omega)) (fun _ => ⟨pk_in j n hj, nm_r (e' := a j) (by rw [nI_clamp (by omega)]) (nm_r (e' := nI (zc_V a n (8 * (j + 1)))) ?_ (nm_r (nI_add (8 * j % 6) 8) ⟨3, ?_⟩))⟩)
    · rw [zc_and, zc_acc _ (zc_B_lt a j), zc_V_byte hj]
    · exact zc_x52 hj hn (by omega) (by omega) (fun b' h4 h5 => ih (j + 1) b' (by omega) h4 h5) 2 (8 * j / 6) (8 * j % 6 + 8) b (by omega) (by omega) (by omega) hL hf
theorem zc_x {post : St2 → Prop} {mc ms : Nat} {a : Nat → Int32} {n : Nat} (hn : n ≤ 7) (hmc : 4 ≤ mc) (hms : 34 ≤ ms)
    (hp : ∀ s, sb_Lat (zc_T a n) ((8 * n + 5) / 6) s → post (a, n, 0, 0, 0, s, (8 * n + 5) / 6)) : wpX3_packed post mc ms (a, n) := by
  refine ⟨by omega, by omega, 1, 16, by omega, by omega, zc_init (nm_e ⟨n + 1, ?_⟩)⟩
  exact zc_x23 hn (by omega) (by omega) hp n 0 _ (by omega) (zc_lat0 _ _) sb_fit0
end
section
/-! the twin: unsigned, bitOfByte, signOf, packed -/
theorem zc_unsigned {post : Int32 → Prop} {a : Nat → Int32} {j : Nat} (hb : (a j).toInt8.toInt32 = a j) (h : post (nI (zc_B a j))) : wpX4_unsigned post () (a j) := by
  obtain ⟨h1, h2⟩ := zc_uns _ (zc_B_lt a j)
  rw [← zc_byte hb] at h1 h2
  refine br_c (fun z => ?_) (fun z => ?_)
  · rw [h1 z]
    exact h
  · rw [h2 z]
    exact h
theorem zc_y7 {post : Int32 → Prop} : ∀ (d p w : Nat), p + d = 7 → w < 256 → post (nI (w / 2 ^ d % 2)) → wX4_bitOfByte_7 post (d + 1) (nI w) (nI p) := by
  intro d
  induction d with
  | zero =>
    intro p w hp hw h
    rw [Nat.pow_zero, Nat.div_one] at h
    refine pk_le 7 p (fun _ => ⟨by decide, ?_⟩) (fun z => absurd z (by omega))
    rw [show nI w - nI w / 2 * 2 = nI (w % 2) from pk_rem (d := 2) (by omega) (by decide) (by decide)]
    exact h
  | succ d ih =>
    intro p w hp hw h
    refine pk_le 7 p (fun z => absurd z (by omega)) (fun _ => ⟨by decide, nm_r (e' := nI (w / 2)) (pk_div (d := 2) (by omega) (by decide) (by decide)) (nm_r (nI_1 p) (ih (p + 1) (w / 2) (by omega) (by omega) ?_))⟩)
    rw [Nat.div_div_eq_div_mul, Nat.mul_comm 2 (2 ^ d), ← Nat.pow_succ]
    exact h
theorem zc_bit {post : Int32 → Prop} {a : Nat → Int32} {j p : Nat} (hp : p < 8) (hb : (a j).toInt8.toInt32 = a j) (h : post (nI (zc_B a j / 2 ^ (7 - p) % 2))) : wpX4_bitOfByte post () (a j) (nI p) := by
  have hB := zc_B_lt a j
  exact zc_unsigned hb ⟨7 - p + 1, zc_y7 (7 - p) p _ (by omega) hB h⟩
theorem zc_sign {post : Int32 → Prop} {v : Nat} (hv : v < 64) (h : post (nI (zc_c v))) : wpX4_signOf post () (nI v) := by
  refine pk_le 26 v (fun h1 => pk_le 52 v (fun h2 => pk_le 62 v (fun h3 => pk_eq v 62 (fun h4 => ?_) (fun h4 => ?_)) (fun h3 => ?_)) (fun h2 => ?_)) (fun h1 => ?_)
  · exact ek_v (zc_s4 v hv h4) h
  · exact ek_v (zc_s5 v hv h3 h4) h
  · exact ek_v (zc_s3 v hv h2 h3) h
  · exact ek_v (zc_s2 v hv h1 h2) h
  · exact ek_v (zc_s1 v hv h1) h
theorem zc_y27 {post : St2 → Prop} {mc ms kc ks : Nat} {J : Int32 → Nat → Nat → (Nat → Int32) → Nat → Int32 → Int32 → Int32 → (Nat → Int32) → Nat → Prop} {a b : Nat → Int32} {n k : Nat} (hn : n ≤ 7) (hb : ∀ j, j < n → (a j).toInt8.toInt32 = a j) (hk : 6 * k < 8 * n) (hmc : kc ≤ mc) (hms : ks ≤ ms) (hL : sb_Lat (zc_T a n) k b) (hf : sb_Fit b)
    (hJ : ∀ b', sb_Lat (zc_T a n) (k + 1) b' → sb_Fit b' → J (nI (6 * k + 6)) kc ks a n 0 0 (nI (k + 1)) b' 16) :
    ∀ (d e v : Nat), e + d = 6 → zc_V a n (6 * k + e) = zc_V a n (6 * k) * 2 ^ e + v → v < 2 ^ e → wX4_packed_27 post mc ms J (nI (8 * n)) (nI (6 * k)) kc ks a n 0 0 (nI k) b 16 (d + 1) (nI v) (nI (6 * k + e)) := by
  have e6 : nI (6 * k) + 6 = nI (6 * k + 6) := nI_add (6 * k) 6
  intro d
  induction d with
  | zero =>
    intro e v he hV hv
    obtain rfl : e = 6 := by omega
    have hT : zc_T a n k = zc_c v := congrArg zc_c (by omega)
    refine pk_le (6 * k + 6) (6 * k + 6) (fun _ => ?_) (fun z => absurd z (by omega)) e6 rfl (by omega) (by omega)
    refine zc_sign (by omega) ⟨0, 0, hmc, hms, ?_⟩
    rw [← hT]
    exact zc_append (T := zc_T a n) (by omega) hL hf (zc_T_lt a n k) (fun b' h4 h5 => nm_r e6 (hJ b' h4 h5))
  | succ d ih =>
    intro e v he hV hv
    have hp : 2 ^ (e + 1) = 2 * 2 ^ e := by rw [Nat.pow_succ, Nat.mul_comm]
    have hV2 : zc_V a n (6 * k) * 2 ^ (e + 1) = 2 * (zc_V a n (6 * k) * 2 ^ e) := by rw [hp, Nat.mul_left_comm]
    have hs := zc_V_s a n (6 * k + e)
    have hf2 := zc_f_lt a n (6 * k + e)
    have hv64 : v < 64 := Nat.lt_of_lt_of_le hv (Nat.pow_le_pow_right (n := 2) (by decide) (show e ≤ 6 by omega))
    have hW : wX4_packed_27 post mc ms J (nI (8 * n)) (nI (6 * k)) kc ks a n 0 0 (nI k) b 16 (d + 1) (nI (2 * v + zc_f a n (6 * k + e))) (nI (6 * k + e + 1)) :=
      ih (e + 1) (2 * v + zc_f a n (6 * k + e)) (by omega) (by rw [hV2, show 6 * k + (e + 1) = 6 * k + e + 1 by omega]; omega) (by omega)
    refine pk_le (6 * k + 6) (6 * k + e) (fun z => absurd z (by omega)) (fun _ => pk_le (8 * n) (6 * k + e) (fun z => ?_) (fun z => ?_)) e6 rfl (by omega) (by omega)
    · rw [zc_f_out z] at hW
      exact nm_r (e' := nI (2 * v + 0)) (show nI 2 * nI v + nI 0 = nI (2 * v + 0) by rw [pk_mul, nI_add]) (nm_r (nI_1 _) hW)
    · have e8 : nI (6 * k + e) / 8 = nI ((6 * k + e) / 8) := pk_div (d := 8) (by omega) (by decide) (by decide)
      have r8 : nI (6 * k + e) - nI (6 * k + e) / 8 * 8 = nI ((6 * k + e) % 8) := pk_rem (d := 8) (by omega) (by decide) (by decide)
      have hff : zc_f a n (6 * k + e) = zc_B a ((6 * k + e) / 8) / 2 ^ (7 - (6 * k + e) % 8) % 2 := if_pos z
      refine ⟨by decide, pk_in ((6 * k + e) / 8) n (by omega) e8, by decide, ?_⟩
      rw [r8, e8, nI_clamp (by omega)]
      refine zc_bit (Nat.mod_lt _ (by decide)) (hb _ (by omega)) (nm_r (e' := nI (2 * v + zc_f a n (6 * k + e))) ?_ (nm_r (nI_1 _) hW))
      rw [← hff]
      exact (show nI 2 * nI v + nI (zc_f a n (6 * k + e)) = _ by rw [pk_mul, nI_add])
theorem zc_y16 {post : St2 → Prop} {mc ms kc ks : Nat} {a : Nat → Int32} {n : Nat} (hn : n ≤ 7) (hb : ∀ j, j < n → (a j).toInt8.toInt32 = a j) (hmc : kc + 2 ≤ mc) (hms : ks + 14 ≤ ms)
    (hp : ∀ s, sb_Lat (zc_T a n) ((8 * n + 5) / 6) s → post (a, n, 0, 0, 0, s, (8 * n + 5) / 6)) :
    ∀ (d k : Nat) (b : Nat → Int32), k + d = (8 * n + 5) / 6 → sb_Lat (zc_T a n) k b → sb_Fit b → wX4_packed_16 post mc ms (nI (8 * n)) (d + 1) (nI (6 * k)) kc ks a n 0 0 (nI k) b 16 := by
  intro d
  induction d with
  | zero =>
    intro k b hd hL hf
    rw [show (8 * n + 5) / 6 = k by omega] at hp
    exact pk_le (8 * n) (6 * k) (fun _ => ⟨2, 14, hmc, hms, sb_toString (by omega) (by decide) hL hf (by decide) (by omega) (fun s h1 _ => hp s h1)⟩) (fun z => absurd z (by omega))
  | succ d ih =>
    intro k b hd hL hf
    refine pk_le (8 * n) (6 * k) (fun z => absurd z (by omega)) (fun z => ⟨7, ?_⟩)
    refine zc_y27 hn hb z (by omega) (by omega) hL hf (fun b' h4 h5 => ?_) 6 0 0 (by omega) (by simp) (by decide)
    exact ih (k + 1) b' (by omega) h4 h5
theorem zc_y {post : St2 → Prop} {mc ms : Nat} {a : Nat → Int32} {n : Nat} (hn : n ≤ 7) (hb : ∀ j, j < n → (a j).toInt8.toInt32 = a j) (hmc : 4 ≤ mc) (hms : 34 ≤ ms)
    (hp : ∀ s, sb_Lat (zc_T a n) ((8 * n + 5) / 6) s → post (a, n, 0, 0, 0, s, (8 * n + 5) / 6)) : wpX4_packed post mc ms (a, n) := by
  refine nm_r (e' := nI (8 * n)) (pk_mul 8 n) ⟨by omega, by omega, 1, 16, by omega, by omega, zc_init ⟨(8 * n + 5) / 6 + 1, ?_⟩⟩
  exact zc_y16 hn hb (by omega) (by omega) hp ((8 * n + 5) / 6) 0 _ (by omega) (zc_lat0 _ _) sb_fit0
end
section
/-! the law -/
theorem zc_l10 {post : Int32 → St0 → Prop} {x0 : Int64} {n : Nat} (hn : n ≤ 7) (hp : post 1 ()) :
    ∀ (d i : Nat) (a : Nat → Int32), i + d = n → (∀ j, j < i → (a j).toInt8.toInt32 = a j) → wL_lawOf_10 post 16 248 x0 1 (0 + n) n (d + 1) (nI i) a := by
  intro d
  induction d with
  | zero =>
    intro i a hd hb
    obtain rfl : i = n := by omega
    refine pk_le i i (fun _ => ⟨4, 34, by omega, by omega, ?_⟩) (fun z => absurd z (by omega))
    refine zc_x hn (by decide) (by decide) (fun s hs => ⟨4, 34, by omega, by omega, ?_⟩)
    refine zc_y hn hb (by decide) (by decide) (fun s' hs' => ?_)
    exact sv_equals (by omega) (fun j hj => (hs j hj).2.trans (hs' j hj).2.symm) ⟨by rfl, hp⟩
  | succ d ih =>
    intro i a hd hb
    refine pk_le n i (fun z => absurd z (by omega)) (fun _ => ⟨pk_in i n (by omega), nm_e (nm_r (nI_1 i) (ih (i + 1) _ (by omega) (fun j hj => ?_)))⟩)
    rw [nI_clamp (by omega)]
    by_cases e : j = i
    · rw [e, pk_us]
      simp
    · rw [pk_un e]
      exact hb j (by omega)
theorem zc_lawOf {post : Int32 → St0 → Prop} {x0 : Int64} {x1 : Int32} (hp : post 1 ()) : wpL_lawOf post 16 248 () x0 x1 := by
  obtain ⟨m, hm, e⟩ := pk_andE x1 (m := 7) 3 (by decide)
  unfold wpL_lawOf
  rw [e]
  refine ⟨nI_pos (by omega), nm_r (nI_clamp (by omega)) ⟨by omega, by decide, by omega, m + 1, ?_⟩⟩
  exact zc_l10 (by omega) hp m 0 _ (by omega) (fun j hj => absurd hj (Nat.not_lt_zero j))
theorem zc_cell {post : Int32 → Prop} {L : Nat} {xs : Nat → Int32} (hL : L ≤ 3) (c : Nat) (hc : c ≤ 3) (h : ∀ r, post r) : wpL_cellAt post L xs () (nI c) :=
  pk_le L c (fun _ => h _) (fun z => ⟨pk_in c L z, h _⟩)
theorem i_vc (xs : Nat → Int32) (L : Nat) (hL : L ≤ 3) : wpL_law (fun r => r = 1) L xs :=
  zc_cell hL 0 (by decide) (fun _ => zc_cell hL 1 (by decide) (fun _ => zc_cell hL 2 (by decide) (fun _ => ⟨16, 248, by decide, by decide, zc_lawOf rfl⟩)))
end
